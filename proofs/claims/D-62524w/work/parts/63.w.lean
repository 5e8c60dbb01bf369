set_option maxRecDepth 100000
theorem q2248 : (Jvm.Cond.code ({ cls := "LassoFinderModel", name := "expand", desc := "(I)V" } : Jvm.MethodName) prog_22_method_37_code (8 : Nat) (Option.none : Option Jvm.ClassFile.FieldType)) ∈ lw_all := lw_g (lw_at lw_m9 228 rfl) rfl
theorem q2256 : (Jvm.Cond.methodLink "LassoFinderModel" (348 : Nat) ({ cls := "LassoFinderModel", name := "doable", desc := "()J" } : Jvm.MethodName)) ∈ lw_all := lw_g (lw_at lw_m9 236 rfl) rfl
theorem q2258 : (Jvm.Cond.instanceMethod ({ cls := "LassoFinderModel", name := "doable", desc := "()J" } : Jvm.MethodName)) ∈ lw_all := lw_g (lw_at lw_m9 238 rfl) rfl
theorem q2276 : (Jvm.Cond.methodLink "LassoFinderModel" (351 : Nat) ({ cls := "LassoFinderModel", name := "step", desc := "(III)V" } : Jvm.MethodName)) ∈ lw_all := lw_g (lw_at lw_m10 16 rfl) rfl
theorem q2278 : (Jvm.Cond.instanceMethod ({ cls := "LassoFinderModel", name := "step", desc := "(III)V" } : Jvm.MethodName)) ∈ lw_all := lw_g (lw_at lw_m10 18 rfl) rfl
abbrev cX9_expand : ByteArray := prog_22_method_37_code
def yX9_expand : MethodName := ⟨RX9, "expand", "(I)V"⟩
theorem dX9_expand_0 : decode cX9_expand 0 = .ok (.aload_n 0, 1) := by decide +kernel
theorem dX9_expand_1 : decode cX9_expand 1 = .ok (.getfield 109, 3) := by decide +kernel
theorem dX9_expand_4 : decode cX9_expand 4 = .ok (.iload_n 1, 1) := by decide +kernel
theorem dX9_expand_5 : decode cX9_expand 5 = .ok (.aload_n 0, 1) := by decide +kernel
theorem dX9_expand_6 : decode cX9_expand 6 = .ok (.getfield 327, 3) := by decide +kernel
theorem dX9_expand_9 : decode cX9_expand 9 = .ok (.iastore, 1) := by decide +kernel
theorem dX9_expand_10 : decode cX9_expand 10 = .ok (.aload_n 0, 1) := by decide +kernel
theorem dX9_expand_11 : decode cX9_expand 11 = .ok (.aload_n 0, 1) := by decide +kernel
theorem dX9_expand_12 : decode cX9_expand 12 = .ok (.getfield 106, 3) := by decide +kernel
theorem dX9_expand_15 : decode cX9_expand 15 = .ok (.iload_n 1, 1) := by decide +kernel
theorem dX9_expand_16 : decode cX9_expand 16 = .ok (.laload, 1) := by decide +kernel
theorem dX9_expand_17 : decode cX9_expand 17 = .ok (.invokevirtual 334, 3) := by decide +kernel
theorem dX9_expand_20 : decode cX9_expand 20 = .ok (.aload_n 0, 1) := by decide +kernel
theorem dX9_expand_21 : decode cX9_expand 21 = .ok (.invokevirtual 348, 3) := by decide +kernel
theorem dX9_expand_24 : decode cX9_expand 24 = .ok (.lstore_n 2, 1) := by decide +kernel
theorem dX9_expand_25 : decode cX9_expand 25 = .ok (.iconst 0, 1) := by decide +kernel
theorem dX9_expand_26 : decode cX9_expand 26 = .ok (.istore 4, 2) := by decide +kernel
theorem dX9_expand_28 : decode cX9_expand 28 = .ok (.iload 4, 2) := by decide +kernel
theorem dX9_expand_30 : decode cX9_expand 30 = .ok (.aload_n 0, 1) := by decide +kernel
theorem dX9_expand_31 : decode cX9_expand 31 = .ok (.getfield 257, 3) := by decide +kernel
theorem dX9_expand_34 : decode cX9_expand 34 = .ok (.if_icmp .ge 145, 3) := by decide +kernel
theorem dX9_expand_37 : decode cX9_expand 37 = .ok (.aload_n 0, 1) := by decide +kernel
theorem dX9_expand_38 : decode cX9_expand 38 = .ok (.getfield 330, 3) := by decide +kernel
theorem dX9_expand_41 : decode cX9_expand 41 = .ok (.ifCond .ne 138, 3) := by decide +kernel
theorem dX9_expand_44 : decode cX9_expand 44 = .ok (.lload_n 2, 1) := by decide +kernel
theorem dX9_expand_45 : decode cX9_expand 45 = .ok (.iload 4, 2) := by decide +kernel
theorem dX9_expand_47 : decode cX9_expand 47 = .ok (.lshr, 1) := by decide +kernel
theorem dX9_expand_48 : decode cX9_expand 48 = .ok (.lconst 1, 1) := by decide +kernel
theorem dX9_expand_49 : decode cX9_expand 49 = .ok (.land, 1) := by decide +kernel
theorem dX9_expand_50 : decode cX9_expand 50 = .ok (.lconst 0, 1) := by decide +kernel
theorem dX9_expand_51 : decode cX9_expand 51 = .ok (.lcmp, 1) := by decide +kernel
theorem dX9_expand_52 : decode cX9_expand 52 = .ok (.ifCond .ne 6, 3) := by decide +kernel
theorem dX9_expand_55 : decode cX9_expand 55 = .ok (.goto 118, 3) := by decide +kernel
theorem dX9_expand_58 : decode cX9_expand 58 = .ok (.aload_n 0, 1) := by decide +kernel
theorem dX9_expand_59 : decode cX9_expand 59 = .ok (.getfield 69, 3) := by decide +kernel
theorem dX9_expand_62 : decode cX9_expand 62 = .ok (.iload 4, 2) := by decide +kernel
theorem dX9_expand_64 : decode cX9_expand 64 = .ok (.iaload, 1) := by decide +kernel
theorem dX9_expand_65 : decode cX9_expand 65 = .ok (.istore 5, 2) := by decide +kernel
theorem dX9_expand_67 : decode cX9_expand 67 = .ok (.aload_n 0, 1) := by decide +kernel
theorem dX9_expand_68 : decode cX9_expand 68 = .ok (.getfield 29, 3) := by decide +kernel
theorem dX9_expand_71 : decode cX9_expand 71 = .ok (.iload 5, 2) := by decide +kernel
theorem dX9_expand_73 : decode cX9_expand 73 = .ok (.iaload, 1) := by decide +kernel
theorem dX9_expand_74 : decode cX9_expand 74 = .ok (.iconst 2, 1) := by decide +kernel
theorem dX9_expand_75 : decode cX9_expand 75 = .ok (.if_icmp .ne 22, 3) := by decide +kernel
theorem dX9_expand_78 : decode cX9_expand 78 = .ok (.aload_n 0, 1) := by decide +kernel
theorem dX9_expand_79 : decode cX9_expand 79 = .ok (.getfield 26, 3) := by decide +kernel
theorem dX9_expand_82 : decode cX9_expand 82 = .ok (.aload_n 0, 1) := by decide +kernel
theorem dX9_expand_83 : decode cX9_expand 83 = .ok (.getfield 51, 3) := by decide +kernel
theorem dX9_expand_86 : decode cX9_expand 86 = .ok (.iload 5, 2) := by decide +kernel
theorem dX9_expand_88 : decode cX9_expand 88 = .ok (.iaload, 1) := by decide +kernel
theorem dX9_expand_89 : decode cX9_expand 89 = .ok (.iaload, 1) := by decide +kernel
theorem dX9_expand_90 : decode cX9_expand 90 = .ok (.ifCond .ne 7, 3) := by decide +kernel
theorem dX9_expand_93 : decode cX9_expand 93 = .ok (.iconst 1, 1) := by decide +kernel
theorem dX9_expand_94 : decode cX9_expand 94 = .ok (.goto 4, 3) := by decide +kernel
theorem dX9_expand_97 : decode cX9_expand 97 = .ok (.iconst 0, 1) := by decide +kernel
theorem dX9_expand_98 : decode cX9_expand 98 = .ok (.istore 6, 2) := by decide +kernel
theorem dX9_expand_100 : decode cX9_expand 100 = .ok (.iload 6, 2) := by decide +kernel
theorem dX9_expand_102 : decode cX9_expand 102 = .ok (.ifCond .ne 11, 3) := by decide +kernel
theorem dX9_expand_105 : decode cX9_expand 105 = .ok (.aload_n 0, 1) := by decide +kernel
theorem dX9_expand_106 : decode cX9_expand 106 = .ok (.iload_n 1, 1) := by decide +kernel
theorem dX9_expand_107 : decode cX9_expand 107 = .ok (.iload 4, 2) := by decide +kernel
theorem dX9_expand_109 : decode cX9_expand 109 = .ok (.iconst (-1), 1) := by decide +kernel
theorem dX9_expand_110 : decode cX9_expand 110 = .ok (.invokevirtual 351, 3) := by decide +kernel
theorem dX9_expand_113 : decode cX9_expand 113 = .ok (.iconst 0, 1) := by decide +kernel
theorem dX9_expand_114 : decode cX9_expand 114 = .ok (.istore 7, 2) := by decide +kernel
theorem dX9_expand_116 : decode cX9_expand 116 = .ok (.iload 7, 2) := by decide +kernel
theorem dX9_expand_118 : decode cX9_expand 118 = .ok (.aload_n 0, 1) := by decide +kernel
theorem dX9_expand_119 : decode cX9_expand 119 = .ok (.getfield 257, 3) := by decide +kernel
theorem dX9_expand_122 : decode cX9_expand 122 = .ok (.if_icmp .ge 51, 3) := by decide +kernel
theorem dX9_expand_125 : decode cX9_expand 125 = .ok (.iload 6, 2) := by decide +kernel
theorem dX9_expand_127 : decode cX9_expand 127 = .ok (.ifCond .eq 46, 3) := by decide +kernel
theorem dX9_expand_130 : decode cX9_expand 130 = .ok (.aload_n 0, 1) := by decide +kernel
theorem dX9_expand_131 : decode cX9_expand 131 = .ok (.getfield 330, 3) := by decide +kernel
theorem dX9_expand_134 : decode cX9_expand 134 = .ok (.ifCond .ne 39, 3) := by decide +kernel
theorem dX9_expand_137 : decode cX9_expand 137 = .ok (.aload_n 0, 1) := by decide +kernel
theorem dX9_expand_138 : decode cX9_expand 138 = .ok (.aload_n 0, 1) := by decide +kernel
theorem dX9_expand_139 : decode cX9_expand 139 = .ok (.getfield 106, 3) := by decide +kernel
theorem dX9_expand_142 : decode cX9_expand 142 = .ok (.iload_n 1, 1) := by decide +kernel
theorem dX9_expand_143 : decode cX9_expand 143 = .ok (.laload, 1) := by decide +kernel
theorem dX9_expand_144 : decode cX9_expand 144 = .ok (.invokevirtual 334, 3) := by decide +kernel
theorem dX9_expand_147 : decode cX9_expand 147 = .ok (.aload_n 0, 1) := by decide +kernel
theorem dX9_expand_148 : decode cX9_expand 148 = .ok (.iload 5, 2) := by decide +kernel
theorem dX9_expand_150 : decode cX9_expand 150 = .ok (.iload 7, 2) := by decide +kernel
theorem dX9_expand_152 : decode cX9_expand 152 = .ok (.invokevirtual 317, 3) := by decide +kernel
theorem dX9_expand_155 : decode cX9_expand 155 = .ok (.ifCond .eq 12, 3) := by decide +kernel
theorem dX9_expand_158 : decode cX9_expand 158 = .ok (.aload_n 0, 1) := by decide +kernel
theorem dX9_expand_159 : decode cX9_expand 159 = .ok (.iload_n 1, 1) := by decide +kernel
theorem dX9_expand_160 : decode cX9_expand 160 = .ok (.iload 4, 2) := by decide +kernel
theorem dX9_expand_162 : decode cX9_expand 162 = .ok (.iload 7, 2) := by decide +kernel
theorem dX9_expand_164 : decode cX9_expand 164 = .ok (.invokevirtual 351, 3) := by decide +kernel
theorem dX9_expand_167 : decode cX9_expand 167 = .ok (.iinc 7 1, 3) := by decide +kernel
theorem dX9_expand_170 : decode cX9_expand 170 = .ok (.goto (-54), 3) := by decide +kernel
theorem dX9_expand_173 : decode cX9_expand 173 = .ok (.iinc 4 1, 3) := by decide +kernel
theorem dX9_expand_176 : decode cX9_expand 176 = .ok (.goto (-148), 3) := by decide +kernel
theorem dX9_expand_179 : decode cX9_expand 179 = .ok (.lload_n 2, 1) := by decide +kernel
theorem dX9_expand_180 : decode cX9_expand 180 = .ok (.lconst 0, 1) := by decide +kernel
theorem dX9_expand_181 : decode cX9_expand 181 = .ok (.lcmp, 1) := by decide +kernel
theorem dX9_expand_182 : decode cX9_expand 182 = .ok (.ifCond .ne 10, 3) := by decide +kernel
theorem dX9_expand_185 : decode cX9_expand 185 = .ok (.aload_n 0, 1) := by decide +kernel
theorem dX9_expand_186 : decode cX9_expand 186 = .ok (.iload_n 1, 1) := by decide +kernel
theorem dX9_expand_187 : decode cX9_expand 187 = .ok (.iconst (-1), 1) := by decide +kernel
theorem dX9_expand_188 : decode cX9_expand 188 = .ok (.iconst (-1), 1) := by decide +kernel
theorem dX9_expand_189 : decode cX9_expand 189 = .ok (.invokevirtual 351, 3) := by decide +kernel
theorem dX9_expand_192 : decode cX9_expand 192 = .ok (.return_, 1) := by decide +kernel
abbrev MX9_expand : zT := (yX9_expand, cX9_expand, 8, (Option.none : Option Jvm.ClassFile.FieldType), [])
theorem plX9_expand : zplain MX9_expand 1 ∧ (zcodeW MX9_expand ∈ lw_all ∧ Cond.initialized MX9_expand.1.cls ∈ lw_all) := ⟨⟨by decide +kernel, by decide +kernel⟩, q2248, q127⟩
noncomputable def f_X9_expand_192 (σ : zM) : Option zO :=
  some (0, ((3, 0) : zV), σ)
theorem w_X9_expand_192 {g : zG} {lv : Nat} {out : zO} (σ : zM) {r : zO} (h : f_X9_expand_192  σ = some r) (hk : (fun o : zO => o = out) r) : Gj g MX9_expand (lv + 4) 192 [] [] σ out := by
  revert h
  unfold f_X9_expand_192
  intro h
  cases h
  have hk : (0, ((3, 0) : zV), σ) = out := hk
  subst hk
  exact gj_vret (pc := 192) dX9_expand_192 rfl
noncomputable def f_X9_expand_179 (x0 x1 x2 : Int) (σ : zM) : Option zO :=
  if (zlcmp x2 0) ≠ 0 then
    f_X9_expand_192 σ
  else
    zgd (zis σ 10 x0) <|
    zcv (f_X9_step x0 x1 (-1) (-1) σ) fun σ1 =>
    f_X9_expand_192 σ1
theorem w_X9_expand_179 {g : zG} {lv : Nat} {out : zO} (x0 x1 x2 : Int) (σ : zM) {r : zO} (h : f_X9_expand_179 x0 x1 x2 σ = some r) (hk : (fun o : zO => o = out) r) : Gj g MX9_expand (lv + 4) 179 [(0, zr x0), (1, zi x1), (2, zj x2)] [] σ out := by
  revert h
  unfold f_X9_expand_179
  refine zst_ (gj_lload_n 2 (pc := 179) dX9_expand_179 rfl) ?_
  refine zst_ (gj_lconst0 (pc := 180) dX9_expand_180) ?_
  refine zst_ (gj_lcmp (pc := 181) dX9_expand_181) ?_
  refine gb_if (gj_if_ne 192 (pc := 182) dX9_expand_182 (by decide)) ?_ ?_
  · refine zst_ (gj_sub [] rfl) ?_
    exact fun h => w_X9_expand_192 σ h hk
  · refine zst_ (gj_aload_n 0 (pc := 185) dX9_expand_185 rfl) ?_
    refine zst_ (gj_iload_n 1 (pc := 186) dX9_expand_186 rfl) ?_
    refine zst_ (gj_iconst (pc := 187) dX9_expand_187 (by decide)) ?_
    refine zst_ (gj_iconst (pc := 188) dX9_expand_188 (by decide)) ?_
    refine gb_gd (fun hb => ?_)
    refine gb_callV (pc := 189) (as := [zr x0, zi x1, zi (-1), zi (-1)]) (rest := []) (zCl.of (zLk_V (M := MX9_expand) (ci := 9) (r := (RX9, TX9, 84)) plX9_step.1 rfl rfl (zisE hb).1 (zisE hb).2 dX9_expand_189 q2276 q2278 qs75 q2279) plX9_step (Nat.le_of_ble_eq_true rfl) (fun h => c_X9_step h)) (fun σ1 => ?_)
    refine zst_ (gj_sub [] rfl) ?_
    exact fun h => w_X9_expand_192 σ1 h hk
noncomputable def f_X9_expand_173 (x0 x1 x2 x4 : Int) (σ : zM) : Option ((Int × zM) ⊕ zO) :=
  zlet (zadd x4 1) fun y1 =>
  some (.inl (y1, σ))
theorem w_X9_expand_173 {g : zG} {lv : Nat} {out : zO} (x0 x1 x2 x4 : Int) (σ : zM) {r : ((Int × zM) ⊕ zO)} (h : f_X9_expand_173 x0 x1 x2 x4 σ = some r) (hk : (zKL (fun s : Int × zM => Gj g MX9_expand (lv + 4) 28 [(0, zr x0), (1, zi x1), (2, zj x2), (4, zi s.1)] [] s.2 out) (fun o : zO => o = out)) r) : Gj g MX9_expand (lv + 4) 173 [(0, zr x0), (1, zi x1), (2, zj x2), (4, zi x4)] [] σ out := by
  revert h
  unfold f_X9_expand_173
  refine gb_iinc (pc := 173) 3 (fun y1 => [(4, zi y1), (0, zr x0), (1, zi x1), (2, zj x2)]) dX9_expand_173 rfl (by decide) (fun _ => rfl) (fun y1 => ?_)
  refine zst_ (gj_goto 28 (pc := 176) dX9_expand_176 (by decide)) ?_
  refine zst_ (gj_sub [1, 2, 3, 0] rfl) ?_
  intro h
  cases h
  exact hk
noncomputable def f_X9_expand_167 (x0 x1 x2 x4 x5 x6 x7 : Int) (σ : zM) : Option ((Int × zM) ⊕ ((Int × zM) ⊕ zO)) :=
  zlet (zadd x7 1) fun y1 =>
  some (.inl (y1, σ))
theorem w_X9_expand_167 {g : zG} {lv : Nat} {out : zO} (x0 x1 x2 x4 x5 x6 x7 : Int) (σ : zM) {r : ((Int × zM) ⊕ ((Int × zM) ⊕ zO))} (h : f_X9_expand_167 x0 x1 x2 x4 x5 x6 x7 σ = some r) (hk : (zKL (fun s : Int × zM => Gj g MX9_expand (lv + 4) 116 [(0, zr x0), (1, zi x1), (2, zj x2), (4, zi x4), (5, zi x5), (6, zi x6), (7, zi s.1)] [] s.2 out) (zKL (fun s : Int × zM => Gj g MX9_expand (lv + 4) 28 [(0, zr x0), (1, zi x1), (2, zj x2), (4, zi s.1)] [] s.2 out) (fun o : zO => o = out))) r) : Gj g MX9_expand (lv + 4) 167 [(0, zr x0), (1, zi x1), (2, zj x2), (4, zi x4), (5, zi x5), (6, zi x6), (7, zi x7)] [] σ out := by
  revert h
  unfold f_X9_expand_167
  refine gb_iinc (pc := 167) 6 (fun y1 => [(7, zi y1), (0, zr x0), (1, zi x1), (2, zj x2), (4, zi x4), (5, zi x5), (6, zi x6)]) dX9_expand_167 rfl (by decide) (fun _ => rfl) (fun y1 => ?_)
  refine zst_ (gj_goto 116 (pc := 170) dX9_expand_170 (by decide)) ?_
  refine zst_ (gj_sub [1, 2, 3, 4, 5, 6, 0] rfl) ?_
  intro h
  cases h
  exact hk
noncomputable def f_X9_expand_116_b (x0 x1 x2 x4 x5 x6 x7 : Int) (σ : zM) : Option ((Int × zM) ⊕ ((Int × zM) ⊕ zO)) :=
  (zgf σ 927 x0).bind fun v1 =>
  if v1 ≤ x7 then
    (f_X9_expand_173 x0 x1 x2 x4 σ).map (fun r => (.inr r))
  else
    if x6 = 0 then
      (f_X9_expand_173 x0 x1 x2 x4 σ).map (fun r => (.inr r))
    else
      (zgf σ 946 x0).bind fun v2 =>
      if v2 ≠ 0 then
        (f_X9_expand_173 x0 x1 x2 x4 σ).map (fun r => (.inr r))
      else
        (zgf σ 947 x0).bind fun v3 =>
        (zga σ 102 v3 x1).bind fun v4 =>
        zgd (zis σ 10 x0) <|
        zcv (f_X9_unpack x0 v4 σ) fun σ5 =>
        zgd (zis σ5 10 x0) <|
        zci (f_X9_meets x0 x5 x7 σ5) fun v6 σ7 =>
        if v6 = 0 then
          f_X9_expand_167 x0 x1 x2 x4 x5 x6 x7 σ7
        else
          zgd (zis σ7 10 x0) <|
          zcv (f_X9_step x0 x1 x4 x7 σ7) fun σ8 =>
          f_X9_expand_167 x0 x1 x2 x4 x5 x6 x7 σ8
noncomputable def f_X9_expand_116 (x0 x1 x2 x4 x5 x6 x7 : Int) (σ : zM) : Option ((Int × zM) ⊕ zO) :=
  zloop (fun s : Int × zM => f_X9_expand_116_b x0 x1 x2 x4 x5 x6 s.1 s.2) (x7, σ)
theorem w_X9_expand_116_b {g : zG} {lv : Nat} {out : zO} (x0 x1 x2 x4 x5 x6 x7 : Int) (σ : zM) {r : ((Int × zM) ⊕ ((Int × zM) ⊕ zO))} (h : f_X9_expand_116_b x0 x1 x2 x4 x5 x6 x7 σ = some r) (hk : (zKL (fun s : Int × zM => Gj g MX9_expand (lv + 4) 116 [(0, zr x0), (1, zi x1), (2, zj x2), (4, zi x4), (5, zi x5), (6, zi x6), (7, zi s.1)] [] s.2 out) (zKL (fun s : Int × zM => Gj g MX9_expand (lv + 4) 28 [(0, zr x0), (1, zi x1), (2, zj x2), (4, zi s.1)] [] s.2 out) (fun o : zO => o = out))) r) : Gj g MX9_expand (lv + 4) 116 [(0, zr x0), (1, zi x1), (2, zj x2), (4, zi x4), (5, zi x5), (6, zi x6), (7, zi x7)] [] σ out := by
  revert h
  unfold f_X9_expand_116_b
  refine zst_ (gj_iload 6 (pc := 116) dX9_expand_116 rfl) ?_
  refine zst_ (gj_aload_n 0 (pc := 118) dX9_expand_118 rfl) ?_
  refine gb_get (pc := 119) fl927 dX9_expand_119 q1909 (Or.inl rfl) (fun v1 => ?_)
  refine gb_if (gj_icmp_ge 173 (pc := 122) dX9_expand_122 (by decide)) ?_ ?_
  · refine zst_ (gj_sub [0, 1, 2, 3] rfl) ?_
    intro h
    obtain ⟨r0, h0, rfl⟩ := zmE h
    exact w_X9_expand_173 x0 x1 x2 x4 σ h0 hk
  · refine zst_ (gj_iload 5 (pc := 125) dX9_expand_125 rfl) ?_
    refine gb_if (gj_if_eq 173 (pc := 127) dX9_expand_127 (by decide)) ?_ ?_
    · refine zst_ (gj_sub [0, 1, 2, 3] rfl) ?_
      intro h
      obtain ⟨r0, h0, rfl⟩ := zmE h
      exact w_X9_expand_173 x0 x1 x2 x4 σ h0 hk
    · refine zst_ (gj_aload_n 0 (pc := 130) dX9_expand_130 rfl) ?_
      refine gb_get (pc := 131) fl946 dX9_expand_131 q1928 (Or.inl rfl) (fun v2 => ?_)
      refine gb_if (gj_if_ne 173 (pc := 134) dX9_expand_134 (by decide)) ?_ ?_
      · refine zst_ (gj_sub [0, 1, 2, 3] rfl) ?_
        intro h
        obtain ⟨r0, h0, rfl⟩ := zmE h
        exact w_X9_expand_173 x0 x1 x2 x4 σ h0 hk
      · refine zst_ (gj_aload_n 0 (pc := 137) dX9_expand_137 rfl) ?_
        refine zst_ (gj_aload_n 0 (pc := 138) dX9_expand_138 rfl) ?_
        refine gb_get (pc := 139) fl947 dX9_expand_139 q1929 (Or.inl rfl) (fun v3 => ?_)
        refine zst_ (gj_iload_n 1 (pc := 142) dX9_expand_142 rfl) ?_
        refine gb_lald (pc := 143) dX9_expand_143 (fun v4 => ?_)
        refine gb_gd (fun hb => ?_)
        refine gb_callV (pc := 144) (as := [zr x0, zj v4]) (rest := []) (zCl.of (zLk_V (M := MX9_expand) (ci := 9) (r := (RX9, TX9, 84)) plX9_unpack.1 rfl rfl (zisE hb).1 (zisE hb).2 dX9_expand_144 q2249 q2251 qs69 q2252) plX9_unpack (Nat.le_of_ble_eq_true rfl) (fun h => c_X9_unpack h)) (fun σ5 => ?_)
        refine zst_ (gj_aload_n 0 (pc := 147) dX9_expand_147 rfl) ?_
        refine zst_ (gj_iload 4 (pc := 148) dX9_expand_148 rfl) ?_
        refine zst_ (gj_iload 6 (pc := 150) dX9_expand_150 rfl) ?_
        refine gb_gd (fun hb => ?_)
        refine gb_callI (pc := 152) (as := [zr x0, zi x5, zi x7]) (rest := []) (zCl.of (zLk_V (M := MX9_expand) (ci := 9) (r := (RX9, TX9, 84)) plX9_meets.1 rfl rfl (zisE hb).1 (zisE hb).2 dX9_expand_152 q2272 q2274 qs74 q2275) plX9_meets (Nat.le_of_ble_eq_true rfl) (fun h => c_X9_meets h)) (fun v6 σ7 => ?_)
        refine gb_if (gj_if_eq 167 (pc := 155) dX9_expand_155 (by decide)) ?_ ?_
        · exact fun h => w_X9_expand_167 x0 x1 x2 x4 x5 x6 x7 σ7 h hk
        · refine zst_ (gj_aload_n 0 (pc := 158) dX9_expand_158 rfl) ?_
          refine zst_ (gj_iload_n 1 (pc := 159) dX9_expand_159 rfl) ?_
          refine zst_ (gj_iload 3 (pc := 160) dX9_expand_160 rfl) ?_
          refine zst_ (gj_iload 6 (pc := 162) dX9_expand_162 rfl) ?_
          refine gb_gd (fun hb => ?_)
          refine gb_callV (pc := 164) (as := [zr x0, zi x1, zi x4, zi x7]) (rest := []) (zCl.of (zLk_V (M := MX9_expand) (ci := 9) (r := (RX9, TX9, 84)) plX9_step.1 rfl rfl (zisE hb).1 (zisE hb).2 dX9_expand_164 q2276 q2278 qs75 q2279) plX9_step (Nat.le_of_ble_eq_true rfl) (fun h => c_X9_step h)) (fun σ8 => ?_)
          exact fun h => w_X9_expand_167 x0 x1 x2 x4 x5 x6 x7 σ8 h hk
theorem w_X9_expand_116 {g : zG} {lv : Nat} {out : zO} (x0 x1 x2 x4 x5 x6 x7 : Int) (σ : zM) {r : ((Int × zM) ⊕ zO)} (h : f_X9_expand_116 x0 x1 x2 x4 x5 x6 x7 σ = some r) (hk : (zKL (fun s : Int × zM => Gj g MX9_expand (lv + 4) 28 [(0, zr x0), (1, zi x1), (2, zj x2), (4, zi s.1)] [] s.2 out) (fun o : zO => o = out)) r) : Gj g MX9_expand (lv + 4) 116 [(0, zr x0), (1, zi x1), (2, zj x2), (4, zi x4), (5, zi x5), (6, zi x6), (7, zi x7)] [] σ out :=
  gj_loop (P := (fun s : Int × zM => Gj g MX9_expand (lv + 4) 116 [(0, zr x0), (1, zi x1), (2, zj x2), (4, zi x4), (5, zi x5), (6, zi x6), (7, zi s.1)] [] s.2 out)) (fun s x hb hx => w_X9_expand_116_b x0 x1 x2 x4 x5 x6 s.1 s.2 hb hx) h hk
noncomputable def f_X9_expand_113 (x0 x1 x2 x4 x5 x6 : Int) (σ : zM) : Option ((Int × zM) ⊕ zO) :=
  f_X9_expand_116 x0 x1 x2 x4 x5 x6 0 σ
theorem w_X9_expand_113 {g : zG} {lv : Nat} {out : zO} (x0 x1 x2 x4 x5 x6 : Int) (σ : zM) {r : ((Int × zM) ⊕ zO)} (h : f_X9_expand_113 x0 x1 x2 x4 x5 x6 σ = some r) (hk : (zKL (fun s : Int × zM => Gj g MX9_expand (lv + 4) 28 [(0, zr x0), (1, zi x1), (2, zj x2), (4, zi s.1)] [] s.2 out) (fun o : zO => o = out)) r) : Gj g MX9_expand (lv + 4) 113 [(0, zr x0), (1, zi x1), (2, zj x2), (4, zi x4), (5, zi x5), (6, zi x6)] [] σ out := by
  revert h
  unfold f_X9_expand_113
  refine zst_ (gj_iconst (pc := 113) dX9_expand_113 (by decide)) ?_
  refine zst_ (gj_istore (pc := 114) (ls' := [(7, zi 0), (0, zr x0), (1, zi x1), (2, zj x2), (4, zi x4), (5, zi x5), (6, zi x6)]) dX9_expand_114 (by decide) rfl) ?_
  refine zst_ (gj_sub [1, 2, 3, 4, 5, 6, 0] rfl) ?_
  exact fun h => w_X9_expand_116 x0 x1 x2 x4 x5 x6 0 σ h hk
noncomputable def f_X9_expand_98 (x0 x1 x2 x4 x5 t0 : Int) (σ : zM) : Option ((Int × zM) ⊕ zO) :=
  if t0 ≠ 0 then
    f_X9_expand_113 x0 x1 x2 x4 x5 t0 σ
  else
    zgd (zis σ 10 x0) <|
    zcv (f_X9_step x0 x1 x4 (-1) σ) fun σ1 =>
    f_X9_expand_113 x0 x1 x2 x4 x5 t0 σ1
theorem w_X9_expand_98 {g : zG} {lv : Nat} {out : zO} (x0 x1 x2 x4 x5 t0 : Int) (σ : zM) {r : ((Int × zM) ⊕ zO)} (h : f_X9_expand_98 x0 x1 x2 x4 x5 t0 σ = some r) (hk : (zKL (fun s : Int × zM => Gj g MX9_expand (lv + 4) 28 [(0, zr x0), (1, zi x1), (2, zj x2), (4, zi s.1)] [] s.2 out) (fun o : zO => o = out)) r) : Gj g MX9_expand (lv + 4) 98 [(0, zr x0), (1, zi x1), (2, zj x2), (4, zi x4), (5, zi x5)] [zi t0] σ out := by
  revert h
  unfold f_X9_expand_98
  refine zst_ (gj_istore (pc := 98) (ls' := [(6, zi t0), (0, zr x0), (1, zi x1), (2, zj x2), (4, zi x4), (5, zi x5)]) dX9_expand_98 (by decide) rfl) ?_
  refine zst_ (gj_iload 0 (pc := 100) dX9_expand_100 rfl) ?_
  refine gb_if (gj_if_ne 113 (pc := 102) dX9_expand_102 (by decide)) ?_ ?_
  · refine zst_ (gj_sub [1, 2, 3, 4, 5, 0] rfl) ?_
    exact fun h => w_X9_expand_113 x0 x1 x2 x4 x5 t0 σ h hk
  · refine zst_ (gj_aload_n 1 (pc := 105) dX9_expand_105 rfl) ?_
    refine zst_ (gj_iload_n 2 (pc := 106) dX9_expand_106 rfl) ?_
    refine zst_ (gj_iload 4 (pc := 107) dX9_expand_107 rfl) ?_
    refine zst_ (gj_iconst (pc := 109) dX9_expand_109 (by decide)) ?_
    refine gb_gd (fun hb => ?_)
    refine gb_callV (pc := 110) (as := [zr x0, zi x1, zi x4, zi (-1)]) (rest := []) (zCl.of (zLk_V (M := MX9_expand) (ci := 9) (r := (RX9, TX9, 84)) plX9_step.1 rfl rfl (zisE hb).1 (zisE hb).2 dX9_expand_110 q2276 q2278 qs75 q2279) plX9_step (Nat.le_of_ble_eq_true rfl) (fun h => c_X9_step h)) (fun σ1 => ?_)
    refine zst_ (gj_sub [1, 2, 3, 4, 5, 0] rfl) ?_
    exact fun h => w_X9_expand_113 x0 x1 x2 x4 x5 t0 σ1 h hk
noncomputable def f_X9_expand_97 (x0 x1 x2 x4 x5 : Int) (σ : zM) : Option ((Int × zM) ⊕ zO) :=
  f_X9_expand_98 x0 x1 x2 x4 x5 0 σ
theorem w_X9_expand_97 {g : zG} {lv : Nat} {out : zO} (x0 x1 x2 x4 x5 : Int) (σ : zM) {r : ((Int × zM) ⊕ zO)} (h : f_X9_expand_97 x0 x1 x2 x4 x5 σ = some r) (hk : (zKL (fun s : Int × zM => Gj g MX9_expand (lv + 4) 28 [(0, zr x0), (1, zi x1), (2, zj x2), (4, zi s.1)] [] s.2 out) (fun o : zO => o = out)) r) : Gj g MX9_expand (lv + 4) 97 [(0, zr x0), (1, zi x1), (2, zj x2), (4, zi x4), (5, zi x5)] [] σ out := by
  revert h
  unfold f_X9_expand_97
  refine zst_ (gj_iconst (pc := 97) dX9_expand_97 (by decide)) ?_
  exact fun h => w_X9_expand_98 x0 x1 x2 x4 x5 0 σ h hk
noncomputable def f_X9_expand_28_b (x0 x1 x2 x4 : Int) (σ : zM) : Option ((Int × zM) ⊕ zO) :=
  (zgf σ 927 x0).bind fun v1 =>
  if v1 ≤ x4 then
    (f_X9_expand_179 x0 x1 x2 σ).map (fun r => (.inr r))
  else
    (zgf σ 946 x0).bind fun v2 =>
    if v2 ≠ 0 then
      (f_X9_expand_179 x0 x1 x2 σ).map (fun r => (.inr r))
    else
      if (zlcmp (jand (jshr x2 x4) 1) 0) ≠ 0 then
        (zgf σ 928 x0).bind fun v3 =>
        (zga σ 101 v3 x4).bind fun v4 =>
        (zgf σ 914 x0).bind fun v5 =>
        (zga σ 101 v5 v4).bind fun v6 =>
        if v6 ≠ 2 then
          f_X9_expand_97 x0 x1 x2 x4 v4 σ
        else
          (zgf σ 912 x0).bind fun v7 =>
          (zgf σ 921 x0).bind fun v8 =>
          (zga σ 101 v8 v4).bind fun v9 =>
          (zga σ 101 v7 v9).bind fun v10 =>
          if v10 ≠ 0 then
            f_X9_expand_97 x0 x1 x2 x4 v4 σ
          else
            f_X9_expand_98 x0 x1 x2 x4 v4 1 σ
      else
        f_X9_expand_173 x0 x1 x2 x4 σ
noncomputable def f_X9_expand_28 (x0 x1 x2 x4 : Int) (σ : zM) : Option zO :=
  zloop (fun s : Int × zM => f_X9_expand_28_b x0 x1 x2 s.1 s.2) (x4, σ)
theorem w_X9_expand_28_b {g : zG} {lv : Nat} {out : zO} (x0 x1 x2 x4 : Int) (σ : zM) {r : ((Int × zM) ⊕ zO)} (h : f_X9_expand_28_b x0 x1 x2 x4 σ = some r) (hk : (zKL (fun s : Int × zM => Gj g MX9_expand (lv + 4) 28 [(0, zr x0), (1, zi x1), (2, zj x2), (4, zi s.1)] [] s.2 out) (fun o : zO => o = out)) r) : Gj g MX9_expand (lv + 4) 28 [(0, zr x0), (1, zi x1), (2, zj x2), (4, zi x4)] [] σ out := by
  revert h
  unfold f_X9_expand_28_b
  refine zst_ (gj_iload 3 (pc := 28) dX9_expand_28 rfl) ?_
  refine zst_ (gj_aload_n 0 (pc := 30) dX9_expand_30 rfl) ?_
  refine gb_get (pc := 31) fl927 dX9_expand_31 q1909 (Or.inl rfl) (fun v1 => ?_)
  refine gb_if (gj_icmp_ge 179 (pc := 34) dX9_expand_34 (by decide)) ?_ ?_
  · refine zst_ (gj_sub [0, 1, 2] rfl) ?_
    intro h
    obtain ⟨r0, h0, rfl⟩ := zmE h
    exact w_X9_expand_179 x0 x1 x2 σ h0 hk
  · refine zst_ (gj_aload_n 0 (pc := 37) dX9_expand_37 rfl) ?_
    refine gb_get (pc := 38) fl946 dX9_expand_38 q1928 (Or.inl rfl) (fun v2 => ?_)
    refine gb_if (gj_if_ne 179 (pc := 41) dX9_expand_41 (by decide)) ?_ ?_
    · refine zst_ (gj_sub [0, 1, 2] rfl) ?_
      intro h
      obtain ⟨r0, h0, rfl⟩ := zmE h
      exact w_X9_expand_179 x0 x1 x2 σ h0 hk
    · refine zst_ (gj_lload_n 2 (pc := 44) dX9_expand_44 rfl) ?_
      refine zst_ (gj_iload 3 (pc := 45) dX9_expand_45 rfl) ?_
      refine zst_ (gj_lshr (pc := 47) dX9_expand_47) ?_
      refine zst_ (gj_lconst1 (pc := 48) dX9_expand_48) ?_
      refine zst_ (gj_land (pc := 49) dX9_expand_49) ?_
      refine zst_ (gj_lconst0 (pc := 50) dX9_expand_50) ?_
      refine zst_ (gj_lcmp (pc := 51) dX9_expand_51) ?_
      refine gb_if (gj_if_ne 58 (pc := 52) dX9_expand_52 (by decide)) ?_ ?_
      · refine zst_ (gj_aload_n 0 (pc := 58) dX9_expand_58 rfl) ?_
        refine gb_get (pc := 59) fl928 dX9_expand_59 q1910 (Or.inl rfl) (fun v3 => ?_)
        refine zst_ (gj_iload 3 (pc := 62) dX9_expand_62 rfl) ?_
        refine gb_iald (pc := 64) dX9_expand_64 (fun v4 => ?_)
        refine zst_ (gj_istore (pc := 65) (ls' := [(5, zi v4), (0, zr x0), (1, zi x1), (2, zj x2), (4, zi x4)]) dX9_expand_65 (by decide) rfl) ?_
        refine zst_ (gj_aload_n 1 (pc := 67) dX9_expand_67 rfl) ?_
        refine gb_get (pc := 68) fl914 dX9_expand_68 q1896 (Or.inl rfl) (fun v5 => ?_)
        refine zst_ (gj_iload 0 (pc := 71) dX9_expand_71 rfl) ?_
        refine gb_iald (pc := 73) dX9_expand_73 (fun v6 => ?_)
        refine zst_ (gj_iconst (pc := 74) dX9_expand_74 (by decide)) ?_
        refine gb_if (gj_icmp_ne 97 (pc := 75) dX9_expand_75 (by decide)) ?_ ?_
        · refine zst_ (gj_sub [1, 2, 3, 4, 0] rfl) ?_
          exact fun h => w_X9_expand_97 x0 x1 x2 x4 v4 σ h hk
        · refine zst_ (gj_aload_n 1 (pc := 78) dX9_expand_78 rfl) ?_
          refine gb_get (pc := 79) fl912 dX9_expand_79 q1894 (Or.inl rfl) (fun v7 => ?_)
          refine zst_ (gj_aload_n 1 (pc := 82) dX9_expand_82 rfl) ?_
          refine gb_get (pc := 83) fl921 dX9_expand_83 q1903 (Or.inl rfl) (fun v8 => ?_)
          refine zst_ (gj_iload 0 (pc := 86) dX9_expand_86 rfl) ?_
          refine gb_iald (pc := 88) dX9_expand_88 (fun v9 => ?_)
          refine gb_iald (pc := 89) dX9_expand_89 (fun v10 => ?_)
          refine gb_if (gj_if_ne 97 (pc := 90) dX9_expand_90 (by decide)) ?_ ?_
          · refine zst_ (gj_sub [1, 2, 3, 4, 0] rfl) ?_
            exact fun h => w_X9_expand_97 x0 x1 x2 x4 v4 σ h hk
          · refine zst_ (gj_iconst (pc := 93) dX9_expand_93 (by decide)) ?_
            refine zst_ (gj_goto 98 (pc := 94) dX9_expand_94 (by decide)) ?_
            refine zst_ (gj_sub [1, 2, 3, 4, 0] rfl) ?_
            exact fun h => w_X9_expand_98 x0 x1 x2 x4 v4 1 σ h hk
      · refine zst_ (gj_goto 173 (pc := 55) dX9_expand_55 (by decide)) ?_
        exact fun h => w_X9_expand_173 x0 x1 x2 x4 σ h hk
theorem w_X9_expand_28 {g : zG} {lv : Nat} {out : zO} (x0 x1 x2 x4 : Int) (σ : zM) {r : zO} (h : f_X9_expand_28 x0 x1 x2 x4 σ = some r) (hk : (fun o : zO => o = out) r) : Gj g MX9_expand (lv + 4) 28 [(0, zr x0), (1, zi x1), (2, zj x2), (4, zi x4)] [] σ out :=
  gj_loop (P := (fun s : Int × zM => Gj g MX9_expand (lv + 4) 28 [(0, zr x0), (1, zi x1), (2, zj x2), (4, zi s.1)] [] s.2 out)) (fun s x hb hx => w_X9_expand_28_b x0 x1 x2 s.1 s.2 hb hx) h hk
noncomputable def f_X9_expand (x0 x1 : Int) (σ : zM) : Option zO :=
  (zgf σ 948 x0).bind fun v1 =>
  (zgf σ 945 x0).bind fun v2 =>
  (zpa σ 101 v1 x1 v2).bind fun σ3 =>
  (zgf σ3 947 x0).bind fun v4 =>
  (zga σ3 102 v4 x1).bind fun v5 =>
  zgd (zis σ3 10 x0) <|
  zcv (f_X9_unpack x0 v5 σ3) fun σ6 =>
  zgd (zis σ6 10 x0) <|
  zcj (f_X9_doable x0 σ6) fun v7 σ8 =>
  f_X9_expand_28 x0 x1 v7 0 σ8
theorem c_X9_expand {g : zG} {lv : Nat} {x0 x1 : Int} {σ : zM} {out : zO} (h : f_X9_expand x0 x1 σ = some out) : Cj g (lv + 4) MX9_expand [zr x0, zi x1] σ out := by
  refine cj_go (ls := [(0, zr x0), (1, zi x1)]) (by decide) (Nat.le_of_ble_eq_true rfl) rfl (zgen h (fun r hk => ?_))
  unfold f_X9_expand
  refine zst_ (gj_aload_n 0 (pc := 0) dX9_expand_0 rfl) ?_
  refine gb_get (pc := 1) fl948 dX9_expand_1 q1930 (Or.inl rfl) (fun v1 => ?_)
  refine zst_ (gj_iload_n 1 (pc := 4) dX9_expand_4 rfl) ?_
  refine zst_ (gj_aload_n 0 (pc := 5) dX9_expand_5 rfl) ?_
  refine gb_get (pc := 6) fl945 dX9_expand_6 q1927 (Or.inl rfl) (fun v2 => ?_)
  refine gb_iast (pc := 9) dX9_expand_9 (fun σ3 => ?_)
  refine zst_ (gj_aload_n 0 (pc := 10) dX9_expand_10 rfl) ?_
  refine zst_ (gj_aload_n 0 (pc := 11) dX9_expand_11 rfl) ?_
  refine gb_get (pc := 12) fl947 dX9_expand_12 q1929 (Or.inl rfl) (fun v4 => ?_)
  refine zst_ (gj_iload_n 1 (pc := 15) dX9_expand_15 rfl) ?_
  refine gb_lald (pc := 16) dX9_expand_16 (fun v5 => ?_)
  refine gb_gd (fun hb => ?_)
  refine gb_callV (pc := 17) (as := [zr x0, zj v5]) (rest := []) (zCl.of (zLk_V (M := MX9_expand) (ci := 9) (r := (RX9, TX9, 84)) plX9_unpack.1 rfl rfl (zisE hb).1 (zisE hb).2 dX9_expand_17 q2249 q2251 qs69 q2252) plX9_unpack (Nat.le_of_ble_eq_true rfl) (fun h => c_X9_unpack h)) (fun σ6 => ?_)
  refine zst_ (gj_aload_n 0 (pc := 20) dX9_expand_20 rfl) ?_
  refine gb_gd (fun hb => ?_)
  refine gb_callJ (pc := 21) (as := [zr x0]) (rest := []) (zCl.of (zLk_V (M := MX9_expand) (ci := 9) (r := (RX9, TX9, 84)) plX9_doable.1 rfl rfl (zisE hb).1 (zisE hb).2 dX9_expand_21 q2256 q2258 qs70 q2259) plX9_doable (Nat.le_of_ble_eq_true rfl) (fun h => c_X9_doable h)) (fun v7 σ8 => ?_)
  refine zst_ (gj_lstore_n (pc := 24) (ls' := [(2, zj v7), (0, zr x0), (1, zi x1)]) dX9_expand_24 (by decide) rfl) ?_
  refine zst_ (gj_iconst (pc := 25) dX9_expand_25 (by decide)) ?_
  refine zst_ (gj_istore (pc := 26) (ls' := [(4, zi 0), (2, zj v7), (0, zr x0), (1, zi x1)]) dX9_expand_26 (by decide) rfl) ?_
  refine zst_ (gj_sub [2, 3, 1, 0] rfl) ?_
  exact fun h => w_X9_expand_28 x0 x1 v7 0 σ8 h hk
theorem q2240 : (Jvm.Cond.code ({ cls := "LassoFinderModel", name := "reach", desc := "()Z" } : Jvm.MethodName) prog_22_method_38_code (4 : Nat) (Option.some Jvm.ClassFile.FieldType.boolean)) ∈ lw_all := lw_g (lw_at lw_m9 220 rfl) rfl
theorem q2245 : (Jvm.Cond.methodLink "LassoFinderModel" (355 : Nat) ({ cls := "LassoFinderModel", name := "expand", desc := "(I)V" } : Jvm.MethodName)) ∈ lw_all := lw_g (lw_at lw_m9 225 rfl) rfl
theorem q2247 : (Jvm.Cond.instanceMethod ({ cls := "LassoFinderModel", name := "expand", desc := "(I)V" } : Jvm.MethodName)) ∈ lw_all := lw_g (lw_at lw_m9 227 rfl) rfl
abbrev cX9_reach : ByteArray := prog_22_method_38_code
def yX9_reach : MethodName := ⟨RX9, "reach", "()Z"⟩
theorem dX9_reach_0 : decode cX9_reach 0 = .ok (.iconst 0, 1) := by decide +kernel
theorem dX9_reach_1 : decode cX9_reach 1 = .ok (.istore_n 1, 1) := by decide +kernel
theorem dX9_reach_2 : decode cX9_reach 2 = .ok (.iload_n 1, 1) := by decide +kernel
theorem dX9_reach_3 : decode cX9_reach 3 = .ok (.aload_n 0, 1) := by decide +kernel
theorem dX9_reach_4 : decode cX9_reach 4 = .ok (.getfield 241, 3) := by decide +kernel
theorem dX9_reach_7 : decode cX9_reach 7 = .ok (.if_icmp .ge 21, 3) := by decide +kernel
theorem dX9_reach_10 : decode cX9_reach 10 = .ok (.aload_n 0, 1) := by decide +kernel
theorem dX9_reach_11 : decode cX9_reach 11 = .ok (.getfield 130, 3) := by decide +kernel
theorem dX9_reach_14 : decode cX9_reach 14 = .ok (.iload_n 1, 1) := by decide +kernel
theorem dX9_reach_15 : decode cX9_reach 15 = .ok (.aload_n 0, 1) := by decide +kernel
theorem dX9_reach_16 : decode cX9_reach 16 = .ok (.getfield 23, 3) := by decide +kernel
theorem dX9_reach_19 : decode cX9_reach 19 = .ok (.iload_n 1, 1) := by decide +kernel
theorem dX9_reach_20 : decode cX9_reach 20 = .ok (.iaload, 1) := by decide +kernel
theorem dX9_reach_21 : decode cX9_reach 21 = .ok (.iastore, 1) := by decide +kernel
theorem dX9_reach_22 : decode cX9_reach 22 = .ok (.iinc 1 1, 3) := by decide +kernel
theorem dX9_reach_25 : decode cX9_reach 25 = .ok (.goto (-23), 3) := by decide +kernel
theorem dX9_reach_28 : decode cX9_reach 28 = .ok (.iconst 0, 1) := by decide +kernel
theorem dX9_reach_29 : decode cX9_reach 29 = .ok (.istore_n 1, 1) := by decide +kernel
theorem dX9_reach_30 : decode cX9_reach 30 = .ok (.iload_n 1, 1) := by decide +kernel
theorem dX9_reach_31 : decode cX9_reach 31 = .ok (.aload_n 0, 1) := by decide +kernel
theorem dX9_reach_32 : decode cX9_reach 32 = .ok (.getfield 238, 3) := by decide +kernel
theorem dX9_reach_35 : decode cX9_reach 35 = .ok (.if_icmp .ge 16, 3) := by decide +kernel
theorem dX9_reach_38 : decode cX9_reach 38 = .ok (.aload_n 0, 1) := by decide +kernel
theorem dX9_reach_39 : decode cX9_reach 39 = .ok (.getfield 133, 3) := by decide +kernel
theorem dX9_reach_42 : decode cX9_reach 42 = .ok (.iload_n 1, 1) := by decide +kernel
theorem dX9_reach_43 : decode cX9_reach 43 = .ok (.iconst 0, 1) := by decide +kernel
theorem dX9_reach_44 : decode cX9_reach 44 = .ok (.iastore, 1) := by decide +kernel
theorem dX9_reach_45 : decode cX9_reach 45 = .ok (.iinc 1 1, 3) := by decide +kernel
theorem dX9_reach_48 : decode cX9_reach 48 = .ok (.goto (-18), 3) := by decide +kernel
theorem dX9_reach_51 : decode cX9_reach 51 = .ok (.iconst 0, 1) := by decide +kernel
theorem dX9_reach_52 : decode cX9_reach 52 = .ok (.istore_n 1, 1) := by decide +kernel
theorem dX9_reach_53 : decode cX9_reach 53 = .ok (.iload_n 1, 1) := by decide +kernel
theorem dX9_reach_54 : decode cX9_reach 54 = .ok (.aload_n 0, 1) := by decide +kernel
theorem dX9_reach_55 : decode cX9_reach 55 = .ok (.getfield 254, 3) := by decide +kernel
theorem dX9_reach_58 : decode cX9_reach 58 = .ok (.if_icmp .ge 30, 3) := by decide +kernel
theorem dX9_reach_61 : decode cX9_reach 61 = .ok (.aload_n 0, 1) := by decide +kernel
theorem dX9_reach_62 : decode cX9_reach 62 = .ok (.getfield 139, 3) := by decide +kernel
theorem dX9_reach_65 : decode cX9_reach 65 = .ok (.iload_n 1, 1) := by decide +kernel
theorem dX9_reach_66 : decode cX9_reach 66 = .ok (.aload_n 0, 1) := by decide +kernel
theorem dX9_reach_67 : decode cX9_reach 67 = .ok (.iload_n 1, 1) := by decide +kernel
theorem dX9_reach_68 : decode cX9_reach 68 = .ok (.aload_n 0, 1) := by decide +kernel
theorem dX9_reach_69 : decode cX9_reach 69 = .ok (.aload_n 0, 1) := by decide +kernel
theorem dX9_reach_70 : decode cX9_reach 70 = .ok (.getfield 78, 3) := by decide +kernel
theorem dX9_reach_73 : decode cX9_reach 73 = .ok (.iload_n 1, 1) := by decide +kernel
theorem dX9_reach_74 : decode cX9_reach 74 = .ok (.iaload, 1) := by decide +kernel
theorem dX9_reach_75 : decode cX9_reach 75 = .ok (.invokevirtual 280, 3) := by decide +kernel
theorem dX9_reach_78 : decode cX9_reach 78 = .ok (.invokevirtual 298, 3) := by decide +kernel
theorem dX9_reach_81 : decode cX9_reach 81 = .ok (.iastore, 1) := by decide +kernel
theorem dX9_reach_82 : decode cX9_reach 82 = .ok (.iinc 1 1, 3) := by decide +kernel
theorem dX9_reach_85 : decode cX9_reach 85 = .ok (.goto (-32), 3) := by decide +kernel
theorem dX9_reach_88 : decode cX9_reach 88 = .ok (.aload_n 0, 1) := by decide +kernel
theorem dX9_reach_89 : decode cX9_reach 89 = .ok (.iconst (-1), 1) := by decide +kernel
theorem dX9_reach_90 : decode cX9_reach 90 = .ok (.putfield 301, 3) := by decide +kernel
theorem dX9_reach_93 : decode cX9_reach 93 = .ok (.aload_n 0, 1) := by decide +kernel
theorem dX9_reach_94 : decode cX9_reach 94 = .ok (.getfield 106, 3) := by decide +kernel
theorem dX9_reach_97 : decode cX9_reach 97 = .ok (.iconst 0, 1) := by decide +kernel
theorem dX9_reach_98 : decode cX9_reach 98 = .ok (.aload_n 0, 1) := by decide +kernel
theorem dX9_reach_99 : decode cX9_reach 99 = .ok (.invokevirtual 341, 3) := by decide +kernel
theorem dX9_reach_102 : decode cX9_reach 102 = .ok (.lastore, 1) := by decide +kernel
theorem dX9_reach_103 : decode cX9_reach 103 = .ok (.aload_n 0, 1) := by decide +kernel
theorem dX9_reach_104 : decode cX9_reach 104 = .ok (.iconst 1, 1) := by decide +kernel
theorem dX9_reach_105 : decode cX9_reach 105 = .ok (.putfield 345, 3) := by decide +kernel
theorem dX9_reach_108 : decode cX9_reach 108 = .ok (.aload_n 0, 1) := by decide +kernel
theorem dX9_reach_109 : decode cX9_reach 109 = .ok (.iconst 0, 1) := by decide +kernel
theorem dX9_reach_110 : decode cX9_reach 110 = .ok (.putfield 327, 3) := by decide +kernel
theorem dX9_reach_113 : decode cX9_reach 113 = .ok (.aload_n 0, 1) := by decide +kernel
theorem dX9_reach_114 : decode cX9_reach 114 = .ok (.iconst 0, 1) := by decide +kernel
theorem dX9_reach_115 : decode cX9_reach 115 = .ok (.putfield 330, 3) := by decide +kernel
theorem dX9_reach_118 : decode cX9_reach 118 = .ok (.iconst 0, 1) := by decide +kernel
theorem dX9_reach_119 : decode cX9_reach 119 = .ok (.istore_n 1, 1) := by decide +kernel
theorem dX9_reach_120 : decode cX9_reach 120 = .ok (.iload_n 1, 1) := by decide +kernel
theorem dX9_reach_121 : decode cX9_reach 121 = .ok (.aload_n 0, 1) := by decide +kernel
theorem dX9_reach_122 : decode cX9_reach 122 = .ok (.getfield 345, 3) := by decide +kernel
theorem dX9_reach_125 : decode cX9_reach 125 = .ok (.if_icmp .ge 21, 3) := by decide +kernel
theorem dX9_reach_128 : decode cX9_reach 128 = .ok (.aload_n 0, 1) := by decide +kernel
theorem dX9_reach_129 : decode cX9_reach 129 = .ok (.getfield 330, 3) := by decide +kernel
theorem dX9_reach_132 : decode cX9_reach 132 = .ok (.ifCond .ne 14, 3) := by decide +kernel
theorem dX9_reach_135 : decode cX9_reach 135 = .ok (.aload_n 0, 1) := by decide +kernel
theorem dX9_reach_136 : decode cX9_reach 136 = .ok (.iload_n 1, 1) := by decide +kernel
theorem dX9_reach_137 : decode cX9_reach 137 = .ok (.invokevirtual 355, 3) := by decide +kernel
theorem dX9_reach_140 : decode cX9_reach 140 = .ok (.iinc 1 1, 3) := by decide +kernel
theorem dX9_reach_143 : decode cX9_reach 143 = .ok (.goto (-23), 3) := by decide +kernel
theorem dX9_reach_146 : decode cX9_reach 146 = .ok (.aload_n 0, 1) := by decide +kernel
theorem dX9_reach_147 : decode cX9_reach 147 = .ok (.getfield 109, 3) := by decide +kernel
theorem dX9_reach_150 : decode cX9_reach 150 = .ok (.aload_n 0, 1) := by decide +kernel
theorem dX9_reach_151 : decode cX9_reach 151 = .ok (.getfield 345, 3) := by decide +kernel
theorem dX9_reach_154 : decode cX9_reach 154 = .ok (.aload_n 0, 1) := by decide +kernel
theorem dX9_reach_155 : decode cX9_reach 155 = .ok (.getfield 327, 3) := by decide +kernel
theorem dX9_reach_158 : decode cX9_reach 158 = .ok (.iastore, 1) := by decide +kernel
theorem dX9_reach_159 : decode cX9_reach 159 = .ok (.iconst 0, 1) := by decide +kernel
theorem dX9_reach_160 : decode cX9_reach 160 = .ok (.istore_n 1, 1) := by decide +kernel
theorem dX9_reach_161 : decode cX9_reach 161 = .ok (.iconst 0, 1) := by decide +kernel
theorem dX9_reach_162 : decode cX9_reach 162 = .ok (.istore_n 2, 1) := by decide +kernel
theorem dX9_reach_163 : decode cX9_reach 163 = .ok (.iload_n 2, 1) := by decide +kernel
theorem dX9_reach_164 : decode cX9_reach 164 = .ok (.aload_n 0, 1) := by decide +kernel
theorem dX9_reach_165 : decode cX9_reach 165 = .ok (.getfield 345, 3) := by decide +kernel
theorem dX9_reach_168 : decode cX9_reach 168 = .ok (.if_icmp .ge 52, 3) := by decide +kernel
theorem dX9_reach_171 : decode cX9_reach 171 = .ok (.aload_n 0, 1) := by decide +kernel
theorem dX9_reach_172 : decode cX9_reach 172 = .ok (.getfield 124, 3) := by decide +kernel
theorem dX9_reach_175 : decode cX9_reach 175 = .ok (.iload_n 2, 1) := by decide +kernel
theorem dX9_reach_176 : decode cX9_reach 176 = .ok (.iload_n 1, 1) := by decide +kernel
theorem dX9_reach_177 : decode cX9_reach 177 = .ok (.iastore, 1) := by decide +kernel
theorem dX9_reach_178 : decode cX9_reach 178 = .ok (.iconst 0, 1) := by decide +kernel
theorem dX9_reach_179 : decode cX9_reach 179 = .ok (.istore_n 3, 1) := by decide +kernel
theorem dX9_reach_180 : decode cX9_reach 180 = .ok (.iload_n 3, 1) := by decide +kernel
theorem dX9_reach_181 : decode cX9_reach 181 = .ok (.aload_n 0, 1) := by decide +kernel
theorem dX9_reach_182 : decode cX9_reach 182 = .ok (.getfield 327, 3) := by decide +kernel
theorem dX9_reach_185 : decode cX9_reach 185 = .ok (.if_icmp .ge 29, 3) := by decide +kernel
theorem dX9_reach_188 : decode cX9_reach 188 = .ok (.aload_n 0, 1) := by decide +kernel
theorem dX9_reach_189 : decode cX9_reach 189 = .ok (.getfield 112, 3) := by decide +kernel
theorem dX9_reach_192 : decode cX9_reach 192 = .ok (.iload_n 3, 1) := by decide +kernel
theorem dX9_reach_193 : decode cX9_reach 193 = .ok (.iaload, 1) := by decide +kernel
theorem dX9_reach_194 : decode cX9_reach 194 = .ok (.iload_n 2, 1) := by decide +kernel
theorem dX9_reach_195 : decode cX9_reach 195 = .ok (.if_icmp .ne 13, 3) := by decide +kernel
theorem dX9_reach_198 : decode cX9_reach 198 = .ok (.aload_n 0, 1) := by decide +kernel
theorem dX9_reach_199 : decode cX9_reach 199 = .ok (.getfield 127, 3) := by decide +kernel
theorem dX9_reach_202 : decode cX9_reach 202 = .ok (.iload_n 1, 1) := by decide +kernel
theorem dX9_reach_203 : decode cX9_reach 203 = .ok (.iload_n 3, 1) := by decide +kernel
theorem dX9_reach_204 : decode cX9_reach 204 = .ok (.iastore, 1) := by decide +kernel
theorem dX9_reach_205 : decode cX9_reach 205 = .ok (.iinc 1 1, 3) := by decide +kernel
theorem dX9_reach_208 : decode cX9_reach 208 = .ok (.iinc 3 1, 3) := by decide +kernel
theorem dX9_reach_211 : decode cX9_reach 211 = .ok (.goto (-31), 3) := by decide +kernel
theorem dX9_reach_214 : decode cX9_reach 214 = .ok (.iinc 2 1, 3) := by decide +kernel
theorem dX9_reach_217 : decode cX9_reach 217 = .ok (.goto (-54), 3) := by decide +kernel
theorem dX9_reach_220 : decode cX9_reach 220 = .ok (.aload_n 0, 1) := by decide +kernel
theorem dX9_reach_221 : decode cX9_reach 221 = .ok (.getfield 124, 3) := by decide +kernel
theorem dX9_reach_224 : decode cX9_reach 224 = .ok (.aload_n 0, 1) := by decide +kernel
theorem dX9_reach_225 : decode cX9_reach 225 = .ok (.getfield 345, 3) := by decide +kernel
theorem dX9_reach_228 : decode cX9_reach 228 = .ok (.iload_n 1, 1) := by decide +kernel
theorem dX9_reach_229 : decode cX9_reach 229 = .ok (.iastore, 1) := by decide +kernel
theorem dX9_reach_230 : decode cX9_reach 230 = .ok (.aload_n 0, 1) := by decide +kernel
theorem dX9_reach_231 : decode cX9_reach 231 = .ok (.getfield 330, 3) := by decide +kernel
theorem dX9_reach_234 : decode cX9_reach 234 = .ok (.ifCond .ne 7, 3) := by decide +kernel
theorem dX9_reach_237 : decode cX9_reach 237 = .ok (.iconst 1, 1) := by decide +kernel
theorem dX9_reach_238 : decode cX9_reach 238 = .ok (.goto 4, 3) := by decide +kernel
theorem dX9_reach_241 : decode cX9_reach 241 = .ok (.iconst 0, 1) := by decide +kernel
theorem dX9_reach_242 : decode cX9_reach 242 = .ok (.ireturn, 1) := by decide +kernel
abbrev MX9_reach : zT := (yX9_reach, cX9_reach, 4, (Option.some Jvm.ClassFile.FieldType.boolean), [])
theorem plX9_reach : zplain MX9_reach 0 ∧ (zcodeW MX9_reach ∈ lw_all ∧ Cond.initialized MX9_reach.1.cls ∈ lw_all) := ⟨⟨by decide +kernel, by decide +kernel⟩, q2240, q127⟩
noncomputable def f_X9_reach_242 (t0 : Int) (σ : zM) : Option zO :=
  zgd (z01 t0) <|
  some (0, zi t0, σ)
theorem w_X9_reach_242 {g : zG} {lv : Nat} {out : zO} (t0 : Int) (σ : zM) {r : zO} (h : f_X9_reach_242 t0 σ = some r) (hk : (fun o : zO => o = out) r) : Gj g MX9_reach (lv + 5) 242 [] [zi t0] σ out := by
  revert h
  unfold f_X9_reach_242
  refine gb_gd (fun hb => ?_)
  intro h
  cases h
  have hk : (0, zi t0, σ) = out := hk
  subst hk
  exact gj_ret (pc := 242) (t := .boolean) dX9_reach_242 rfl ⟨rfl, rfl⟩ (fun _ => z01E hb)
noncomputable def f_X9_reach_220 (x0 x1 : Int) (σ : zM) : Option zO :=
  (zgf σ 953 x0).bind fun v1 =>
  (zgf σ 944 x0).bind fun v2 =>
  (zpa σ 101 v1 v2 x1).bind fun σ3 =>
  (zgf σ3 946 x0).bind fun v4 =>
  if v4 ≠ 0 then
    f_X9_reach_242 0 σ3
  else
    f_X9_reach_242 1 σ3
theorem w_X9_reach_220 {g : zG} {lv : Nat} {out : zO} (x0 x1 : Int) (σ : zM) {r : zO} (h : f_X9_reach_220 x0 x1 σ = some r) (hk : (fun o : zO => o = out) r) : Gj g MX9_reach (lv + 5) 220 [(0, zr x0), (1, zi x1)] [] σ out := by
  revert h
  unfold f_X9_reach_220
  refine zst_ (gj_aload_n 0 (pc := 220) dX9_reach_220 rfl) ?_
  refine gb_get (pc := 221) fl953 dX9_reach_221 q1935 (Or.inl rfl) (fun v1 => ?_)
  refine zst_ (gj_aload_n 0 (pc := 224) dX9_reach_224 rfl) ?_
  refine gb_get (pc := 225) fl944 dX9_reach_225 q1926 (Or.inl rfl) (fun v2 => ?_)
  refine zst_ (gj_iload_n 1 (pc := 228) dX9_reach_228 rfl) ?_
  refine gb_iast (pc := 229) dX9_reach_229 (fun σ3 => ?_)
  refine zst_ (gj_aload_n 0 (pc := 230) dX9_reach_230 rfl) ?_
  refine gb_get (pc := 231) fl946 dX9_reach_231 q1928 (Or.inl rfl) (fun v4 => ?_)
  refine gb_if (gj_if_ne 241 (pc := 234) dX9_reach_234 (by decide)) ?_ ?_
  · refine zst_ (gj_iconst (pc := 241) dX9_reach_241 (by decide)) ?_
    refine zst_ (gj_sub [] rfl) ?_
    exact fun h => w_X9_reach_242 0 σ3 h hk
  · refine zst_ (gj_iconst (pc := 237) dX9_reach_237 (by decide)) ?_
    refine zst_ (gj_goto 242 (pc := 238) dX9_reach_238 (by decide)) ?_
    refine zst_ (gj_sub [] rfl) ?_
    exact fun h => w_X9_reach_242 1 σ3 h hk
noncomputable def f_X9_reach_214 (x0 x1 x2 : Int) (σ : zM) : Option ((Int × Int × zM) ⊕ zO) :=
  zlet (zadd x2 1) fun y1 =>
  some (.inl (x1, y1, σ))
theorem w_X9_reach_214 {g : zG} {lv : Nat} {out : zO} (x0 x1 x2 : Int) (σ : zM) {r : ((Int × Int × zM) ⊕ zO)} (h : f_X9_reach_214 x0 x1 x2 σ = some r) (hk : (zKL (fun s : Int × Int × zM => Gj g MX9_reach (lv + 5) 163 [(0, zr x0), (1, zi s.1), (2, zi s.2.1)] [] s.2.2 out) (fun o : zO => o = out)) r) : Gj g MX9_reach (lv + 5) 214 [(0, zr x0), (1, zi x1), (2, zi x2)] [] σ out := by
  revert h
  unfold f_X9_reach_214
  refine gb_iinc (pc := 214) 2 (fun y1 => [(2, zi y1), (0, zr x0), (1, zi x1)]) dX9_reach_214 rfl (by decide) (fun _ => rfl) (fun y1 => ?_)
  refine zst_ (gj_goto 163 (pc := 217) dX9_reach_217 (by decide)) ?_
  refine zst_ (gj_sub [1, 2, 0] rfl) ?_
  intro h
  cases h
  exact hk
noncomputable def f_X9_reach_208 (x0 x1 x2 x3 : Int) (σ : zM) : Option ((Int × Int × zM) ⊕ ((Int × Int × zM) ⊕ zO)) :=
  zlet (zadd x3 1) fun y1 =>
  some (.inl (x1, y1, σ))
theorem w_X9_reach_208 {g : zG} {lv : Nat} {out : zO} (x0 x1 x2 x3 : Int) (σ : zM) {r : ((Int × Int × zM) ⊕ ((Int × Int × zM) ⊕ zO))} (h : f_X9_reach_208 x0 x1 x2 x3 σ = some r) (hk : (zKL (fun s : Int × Int × zM => Gj g MX9_reach (lv + 5) 180 [(0, zr x0), (1, zi s.1), (2, zi x2), (3, zi s.2.1)] [] s.2.2 out) (zKL (fun s : Int × Int × zM => Gj g MX9_reach (lv + 5) 163 [(0, zr x0), (1, zi s.1), (2, zi s.2.1)] [] s.2.2 out) (fun o : zO => o = out))) r) : Gj g MX9_reach (lv + 5) 208 [(0, zr x0), (1, zi x1), (2, zi x2), (3, zi x3)] [] σ out := by
  revert h
  unfold f_X9_reach_208
  refine gb_iinc (pc := 208) 3 (fun y1 => [(3, zi y1), (0, zr x0), (1, zi x1), (2, zi x2)]) dX9_reach_208 rfl (by decide) (fun _ => rfl) (fun y1 => ?_)
  refine zst_ (gj_goto 180 (pc := 211) dX9_reach_211 (by decide)) ?_
  refine zst_ (gj_sub [1, 2, 3, 0] rfl) ?_
  intro h
  cases h
  exact hk
noncomputable def f_X9_reach_180_b (x0 x1 x2 x3 : Int) (σ : zM) : Option ((Int × Int × zM) ⊕ ((Int × Int × zM) ⊕ zO)) :=
  (zgf σ 945 x0).bind fun v1 =>
  if v1 ≤ x3 then
    (f_X9_reach_214 x0 x1 x2 σ).map (fun r => (.inr r))
  else
    (zgf σ 949 x0).bind fun v2 =>
    (zga σ 101 v2 x3).bind fun v3 =>
    if v3 ≠ x2 then
      f_X9_reach_208 x0 x1 x2 x3 σ
    else
      (zgf σ 954 x0).bind fun v4 =>
      (zpa σ 101 v4 x1 x3).bind fun σ5 =>
      zlet (zadd x1 1) fun y6 =>
      f_X9_reach_208 x0 y6 x2 x3 σ5
noncomputable def f_X9_reach_180 (x0 x1 x2 x3 : Int) (σ : zM) : Option ((Int × Int × zM) ⊕ zO) :=
  zloop (fun s : Int × Int × zM => f_X9_reach_180_b x0 s.1 x2 s.2.1 s.2.2) (x1, x3, σ)
theorem w_X9_reach_180_b {g : zG} {lv : Nat} {out : zO} (x0 x1 x2 x3 : Int) (σ : zM) {r : ((Int × Int × zM) ⊕ ((Int × Int × zM) ⊕ zO))} (h : f_X9_reach_180_b x0 x1 x2 x3 σ = some r) (hk : (zKL (fun s : Int × Int × zM => Gj g MX9_reach (lv + 5) 180 [(0, zr x0), (1, zi s.1), (2, zi x2), (3, zi s.2.1)] [] s.2.2 out) (zKL (fun s : Int × Int × zM => Gj g MX9_reach (lv + 5) 163 [(0, zr x0), (1, zi s.1), (2, zi s.2.1)] [] s.2.2 out) (fun o : zO => o = out))) r) : Gj g MX9_reach (lv + 5) 180 [(0, zr x0), (1, zi x1), (2, zi x2), (3, zi x3)] [] σ out := by
  revert h
  unfold f_X9_reach_180_b
  refine zst_ (gj_iload_n 3 (pc := 180) dX9_reach_180 rfl) ?_
  refine zst_ (gj_aload_n 0 (pc := 181) dX9_reach_181 rfl) ?_
  refine gb_get (pc := 182) fl945 dX9_reach_182 q1927 (Or.inl rfl) (fun v1 => ?_)
  refine gb_if (gj_icmp_ge 214 (pc := 185) dX9_reach_185 (by decide)) ?_ ?_
  · refine zst_ (gj_sub [0, 1, 2] rfl) ?_
    intro h
    obtain ⟨r0, h0, rfl⟩ := zmE h
    exact w_X9_reach_214 x0 x1 x2 σ h0 hk
  · refine zst_ (gj_aload_n 0 (pc := 188) dX9_reach_188 rfl) ?_
    refine gb_get (pc := 189) fl949 dX9_reach_189 q1931 (Or.inl rfl) (fun v2 => ?_)
    refine zst_ (gj_iload_n 3 (pc := 192) dX9_reach_192 rfl) ?_
    refine gb_iald (pc := 193) dX9_reach_193 (fun v3 => ?_)
    refine zst_ (gj_iload_n 2 (pc := 194) dX9_reach_194 rfl) ?_
    refine gb_if (gj_icmp_ne 208 (pc := 195) dX9_reach_195 (by decide)) ?_ ?_
    · exact fun h => w_X9_reach_208 x0 x1 x2 x3 σ h hk
    · refine zst_ (gj_aload_n 0 (pc := 198) dX9_reach_198 rfl) ?_
      refine gb_get (pc := 199) fl954 dX9_reach_199 q1936 (Or.inl rfl) (fun v4 => ?_)
      refine zst_ (gj_iload_n 1 (pc := 202) dX9_reach_202 rfl) ?_
      refine zst_ (gj_iload_n 3 (pc := 203) dX9_reach_203 rfl) ?_
      refine gb_iast (pc := 204) dX9_reach_204 (fun σ5 => ?_)
      refine gb_iinc (pc := 205) 1 (fun y6 => [(1, zi y6), (0, zr x0), (2, zi x2), (3, zi x3)]) dX9_reach_205 rfl (by decide) (fun _ => rfl) (fun y6 => ?_)
      refine zst_ (gj_sub [1, 0, 2, 3] rfl) ?_
      exact fun h => w_X9_reach_208 x0 y6 x2 x3 σ5 h hk
theorem w_X9_reach_180 {g : zG} {lv : Nat} {out : zO} (x0 x1 x2 x3 : Int) (σ : zM) {r : ((Int × Int × zM) ⊕ zO)} (h : f_X9_reach_180 x0 x1 x2 x3 σ = some r) (hk : (zKL (fun s : Int × Int × zM => Gj g MX9_reach (lv + 5) 163 [(0, zr x0), (1, zi s.1), (2, zi s.2.1)] [] s.2.2 out) (fun o : zO => o = out)) r) : Gj g MX9_reach (lv + 5) 180 [(0, zr x0), (1, zi x1), (2, zi x2), (3, zi x3)] [] σ out :=
  gj_loop (P := (fun s : Int × Int × zM => Gj g MX9_reach (lv + 5) 180 [(0, zr x0), (1, zi s.1), (2, zi x2), (3, zi s.2.1)] [] s.2.2 out)) (fun s x hb hx => w_X9_reach_180_b x0 s.1 x2 s.2.1 s.2.2 hb hx) h hk
noncomputable def f_X9_reach_163_b (x0 x1 x2 : Int) (σ : zM) : Option ((Int × Int × zM) ⊕ zO) :=
  (zgf σ 944 x0).bind fun v1 =>
  if v1 ≤ x2 then
    (f_X9_reach_220 x0 x1 σ).map (fun r => (.inr r))
  else
    (zgf σ 953 x0).bind fun v2 =>
    (zpa σ 101 v2 x2 x1).bind fun σ3 =>
    f_X9_reach_180 x0 x1 x2 0 σ3
noncomputable def f_X9_reach_163 (x0 x1 x2 : Int) (σ : zM) : Option zO :=
  zloop (fun s : Int × Int × zM => f_X9_reach_163_b x0 s.1 s.2.1 s.2.2) (x1, x2, σ)
theorem w_X9_reach_163_b {g : zG} {lv : Nat} {out : zO} (x0 x1 x2 : Int) (σ : zM) {r : ((Int × Int × zM) ⊕ zO)} (h : f_X9_reach_163_b x0 x1 x2 σ = some r) (hk : (zKL (fun s : Int × Int × zM => Gj g MX9_reach (lv + 5) 163 [(0, zr x0), (1, zi s.1), (2, zi s.2.1)] [] s.2.2 out) (fun o : zO => o = out)) r) : Gj g MX9_reach (lv + 5) 163 [(0, zr x0), (1, zi x1), (2, zi x2)] [] σ out := by
  revert h
  unfold f_X9_reach_163_b
  refine zst_ (gj_iload_n 2 (pc := 163) dX9_reach_163 rfl) ?_
  refine zst_ (gj_aload_n 0 (pc := 164) dX9_reach_164 rfl) ?_
  refine gb_get (pc := 165) fl944 dX9_reach_165 q1926 (Or.inl rfl) (fun v1 => ?_)
  refine gb_if (gj_icmp_ge 220 (pc := 168) dX9_reach_168 (by decide)) ?_ ?_
  · refine zst_ (gj_sub [0, 1] rfl) ?_
    intro h
    obtain ⟨r0, h0, rfl⟩ := zmE h
    exact w_X9_reach_220 x0 x1 σ h0 hk
  · refine zst_ (gj_aload_n 0 (pc := 171) dX9_reach_171 rfl) ?_
    refine gb_get (pc := 172) fl953 dX9_reach_172 q1935 (Or.inl rfl) (fun v2 => ?_)
    refine zst_ (gj_iload_n 2 (pc := 175) dX9_reach_175 rfl) ?_
    refine zst_ (gj_iload_n 1 (pc := 176) dX9_reach_176 rfl) ?_
    refine gb_iast (pc := 177) dX9_reach_177 (fun σ3 => ?_)
    refine zst_ (gj_iconst (pc := 178) dX9_reach_178 (by decide)) ?_
    refine zst_ (gj_istore_n (pc := 179) (ls' := [(3, zi 0), (0, zr x0), (1, zi x1), (2, zi x2)]) dX9_reach_179 (by decide) rfl) ?_
    refine zst_ (gj_sub [1, 2, 3, 0] rfl) ?_
    exact fun h => w_X9_reach_180 x0 x1 x2 0 σ3 h hk
theorem w_X9_reach_163 {g : zG} {lv : Nat} {out : zO} (x0 x1 x2 : Int) (σ : zM) {r : zO} (h : f_X9_reach_163 x0 x1 x2 σ = some r) (hk : (fun o : zO => o = out) r) : Gj g MX9_reach (lv + 5) 163 [(0, zr x0), (1, zi x1), (2, zi x2)] [] σ out :=
  gj_loop (P := (fun s : Int × Int × zM => Gj g MX9_reach (lv + 5) 163 [(0, zr x0), (1, zi s.1), (2, zi s.2.1)] [] s.2.2 out)) (fun s x hb hx => w_X9_reach_163_b x0 s.1 s.2.1 s.2.2 hb hx) h hk
noncomputable def f_X9_reach_146 (x0 : Int) (σ : zM) : Option zO :=
  (zgf σ 948 x0).bind fun v1 =>
  (zgf σ 944 x0).bind fun v2 =>
  (zgf σ 945 x0).bind fun v3 =>
  (zpa σ 101 v1 v2 v3).bind fun σ4 =>
  f_X9_reach_163 x0 0 0 σ4
theorem w_X9_reach_146 {g : zG} {lv : Nat} {out : zO} (x0 : Int) (σ : zM) {r : zO} (h : f_X9_reach_146 x0 σ = some r) (hk : (fun o : zO => o = out) r) : Gj g MX9_reach (lv + 5) 146 [(0, zr x0)] [] σ out := by
  revert h
  unfold f_X9_reach_146
  refine zst_ (gj_aload_n 0 (pc := 146) dX9_reach_146 rfl) ?_
  refine gb_get (pc := 147) fl948 dX9_reach_147 q1930 (Or.inl rfl) (fun v1 => ?_)
  refine zst_ (gj_aload_n 0 (pc := 150) dX9_reach_150 rfl) ?_
  refine gb_get (pc := 151) fl944 dX9_reach_151 q1926 (Or.inl rfl) (fun v2 => ?_)
  refine zst_ (gj_aload_n 0 (pc := 154) dX9_reach_154 rfl) ?_
  refine gb_get (pc := 155) fl945 dX9_reach_155 q1927 (Or.inl rfl) (fun v3 => ?_)
  refine gb_iast (pc := 158) dX9_reach_158 (fun σ4 => ?_)
  refine zst_ (gj_iconst (pc := 159) dX9_reach_159 (by decide)) ?_
  refine zst_ (gj_istore_n (pc := 160) (ls' := [(1, zi 0), (0, zr x0)]) dX9_reach_160 (by decide) rfl) ?_
  refine zst_ (gj_iconst (pc := 161) dX9_reach_161 (by decide)) ?_
  refine zst_ (gj_istore_n (pc := 162) (ls' := [(2, zi 0), (1, zi 0), (0, zr x0)]) dX9_reach_162 (by decide) rfl) ?_
  refine zst_ (gj_sub [2, 1, 0] rfl) ?_
  exact fun h => w_X9_reach_163 x0 0 0 σ4 h hk
noncomputable def f_X9_reach_120_b (x0 x1 : Int) (σ : zM) : Option ((Int × zM) ⊕ zO) :=
  (zgf σ 944 x0).bind fun v1 =>
  if v1 ≤ x1 then
    (f_X9_reach_146 x0 σ).map (fun r => (.inr r))
  else
    (zgf σ 946 x0).bind fun v2 =>
    if v2 ≠ 0 then
      (f_X9_reach_146 x0 σ).map (fun r => (.inr r))
    else
      zgd (zis σ 10 x0) <|
      zcv (f_X9_expand x0 x1 σ) fun σ3 =>
      zlet (zadd x1 1) fun y4 =>
      some (.inl (y4, σ3))
noncomputable def f_X9_reach_120 (x0 x1 : Int) (σ : zM) : Option zO :=
  zloop (fun s : Int × zM => f_X9_reach_120_b x0 s.1 s.2) (x1, σ)
theorem w_X9_reach_120_b {g : zG} {lv : Nat} {out : zO} (x0 x1 : Int) (σ : zM) {r : ((Int × zM) ⊕ zO)} (h : f_X9_reach_120_b x0 x1 σ = some r) (hk : (zKL (fun s : Int × zM => Gj g MX9_reach (lv + 5) 120 [(0, zr x0), (1, zi s.1)] [] s.2 out) (fun o : zO => o = out)) r) : Gj g MX9_reach (lv + 5) 120 [(0, zr x0), (1, zi x1)] [] σ out := by
  revert h
  unfold f_X9_reach_120_b
  refine zst_ (gj_iload_n 1 (pc := 120) dX9_reach_120 rfl) ?_
  refine zst_ (gj_aload_n 0 (pc := 121) dX9_reach_121 rfl) ?_
  refine gb_get (pc := 122) fl944 dX9_reach_122 q1926 (Or.inl rfl) (fun v1 => ?_)
  refine gb_if (gj_icmp_ge 146 (pc := 125) dX9_reach_125 (by decide)) ?_ ?_
  · refine zst_ (gj_sub [0] rfl) ?_
    intro h
    obtain ⟨r0, h0, rfl⟩ := zmE h
    exact w_X9_reach_146 x0 σ h0 hk
  · refine zst_ (gj_aload_n 0 (pc := 128) dX9_reach_128 rfl) ?_
    refine gb_get (pc := 129) fl946 dX9_reach_129 q1928 (Or.inl rfl) (fun v2 => ?_)
    refine gb_if (gj_if_ne 146 (pc := 132) dX9_reach_132 (by decide)) ?_ ?_
    · refine zst_ (gj_sub [0] rfl) ?_
      intro h
      obtain ⟨r0, h0, rfl⟩ := zmE h
      exact w_X9_reach_146 x0 σ h0 hk
    · refine zst_ (gj_aload_n 0 (pc := 135) dX9_reach_135 rfl) ?_
      refine zst_ (gj_iload_n 1 (pc := 136) dX9_reach_136 rfl) ?_
      refine gb_gd (fun hb => ?_)
      refine gb_callV (pc := 137) (as := [zr x0, zi x1]) (rest := []) (zCl.of (zLk_V (M := MX9_reach) (ci := 9) (r := (RX9, TX9, 84)) plX9_expand.1 rfl rfl (zisE hb).1 (zisE hb).2 dX9_reach_137 q2245 q2247 qs68 q2248) plX9_expand (Nat.le_of_ble_eq_true rfl) (fun h => c_X9_expand h)) (fun σ3 => ?_)
      refine gb_iinc (pc := 140) 1 (fun y4 => [(1, zi y4), (0, zr x0)]) dX9_reach_140 rfl (by decide) (fun _ => rfl) (fun y4 => ?_)
      refine zst_ (gj_goto 120 (pc := 143) dX9_reach_143 (by decide)) ?_
      refine zst_ (gj_sub [1, 0] rfl) ?_
      intro h
      cases h
      exact hk
theorem w_X9_reach_120 {g : zG} {lv : Nat} {out : zO} (x0 x1 : Int) (σ : zM) {r : zO} (h : f_X9_reach_120 x0 x1 σ = some r) (hk : (fun o : zO => o = out) r) : Gj g MX9_reach (lv + 5) 120 [(0, zr x0), (1, zi x1)] [] σ out :=
  gj_loop (P := (fun s : Int × zM => Gj g MX9_reach (lv + 5) 120 [(0, zr x0), (1, zi s.1)] [] s.2 out)) (fun s x hb hx => w_X9_reach_120_b x0 s.1 s.2 hb hx) h hk
noncomputable def f_X9_reach_88 (x0 : Int) (σ : zM) : Option zO :=
  (zpf σ 959 x0 (-1)).bind fun σ1 =>
  (zgf σ1 947 x0).bind fun v2 =>
  zgd (zis σ1 10 x0) <|
  zcj (f_X9_packed x0 σ1) fun v3 σ4 =>
  (zpa σ4 102 v2 0 v3).bind fun σ5 =>
  (zpf σ5 944 x0 1).bind fun σ6 =>
  (zpf σ6 945 x0 0).bind fun σ7 =>
  zgd (z01 0) <|
  (zpf σ7 946 x0 0).bind fun σ8 =>
  f_X9_reach_120 x0 0 σ8
theorem w_X9_reach_88 {g : zG} {lv : Nat} {out : zO} (x0 : Int) (σ : zM) {r : zO} (h : f_X9_reach_88 x0 σ = some r) (hk : (fun o : zO => o = out) r) : Gj g MX9_reach (lv + 5) 88 [(0, zr x0)] [] σ out := by
  revert h
  unfold f_X9_reach_88
  refine zst_ (gj_aload_n 0 (pc := 88) dX9_reach_88 rfl) ?_
  refine zst_ (gj_iconst (pc := 89) dX9_reach_89 (by decide)) ?_
  refine gb_put (pc := 90) fl959 fr959 dX9_reach_90 q1941 (Or.inl rfl) (fun σ1 => ?_)
  refine zst_ (gj_aload_n 0 (pc := 93) dX9_reach_93 rfl) ?_
  refine gb_get (pc := 94) fl947 dX9_reach_94 q1929 (Or.inl rfl) (fun v2 => ?_)
  refine zst_ (gj_iconst (pc := 97) dX9_reach_97 (by decide)) ?_
  refine zst_ (gj_aload_n 0 (pc := 98) dX9_reach_98 rfl) ?_
  refine gb_gd (fun hb => ?_)
  refine gb_callJ (pc := 99) (as := [zr x0]) (rest := [zi 0, zr v2]) (zCl.of (zLk_V (M := MX9_reach) (ci := 9) (r := (RX9, TX9, 84)) plX9_packed.1 rfl rfl (zisE hb).1 (zisE hb).2 dX9_reach_99 q2241 q2243 qs67 q2244) plX9_packed (Nat.le_of_ble_eq_true rfl) (fun h => c_X9_packed h)) (fun v3 σ4 => ?_)
  refine gb_last (pc := 102) dX9_reach_102 (fun σ5 => ?_)
  refine zst_ (gj_aload_n 0 (pc := 103) dX9_reach_103 rfl) ?_
  refine zst_ (gj_iconst (pc := 104) dX9_reach_104 (by decide)) ?_
  refine gb_put (pc := 105) fl944 fr944 dX9_reach_105 q1926 (Or.inl rfl) (fun σ6 => ?_)
  refine zst_ (gj_aload_n 0 (pc := 108) dX9_reach_108 rfl) ?_
  refine zst_ (gj_iconst (pc := 109) dX9_reach_109 (by decide)) ?_
  refine gb_put (pc := 110) fl945 fr945 dX9_reach_110 q1927 (Or.inl rfl) (fun σ7 => ?_)
  refine zst_ (gj_aload_n 0 (pc := 113) dX9_reach_113 rfl) ?_
  refine zst_ (gj_iconst (pc := 114) dX9_reach_114 (by decide)) ?_
  refine gb_gd (fun hb => ?_)
  refine gb_put (pc := 115) fl946 (fr946 hb) dX9_reach_115 q1928 (Or.inl rfl) (fun σ8 => ?_)
  refine zst_ (gj_iconst (pc := 118) dX9_reach_118 (by decide)) ?_
  refine zst_ (gj_istore_n (pc := 119) (ls' := [(1, zi 0), (0, zr x0)]) dX9_reach_119 (by decide) rfl) ?_
  refine zst_ (gj_sub [1, 0] rfl) ?_
  exact fun h => w_X9_reach_120 x0 0 σ8 h hk
noncomputable def f_X9_reach_53_b (x0 x1 : Int) (σ : zM) : Option ((Int × zM) ⊕ zO) :=
  (zgf σ 930 x0).bind fun v1 =>
  if v1 ≤ x1 then
    (f_X9_reach_88 x0 σ).map (fun r => (.inr r))
  else
    (zgf σ 958 x0).bind fun v2 =>
    (zgf σ 932 x0).bind fun v3 =>
    (zga σ 101 v3 x1).bind fun v4 =>
    zgd (zis σ 10 x0) <|
    zci (f_X9_instead x0 v4 σ) fun v5 σ6 =>
    zgd (zis σ6 10 x0) <|
    zci (f_X9_pointOf x0 x1 v5 σ6) fun v7 σ8 =>
    (zpa σ8 101 v2 x1 v7).bind fun σ9 =>
    zlet (zadd x1 1) fun y10 =>
    some (.inl (y10, σ9))
noncomputable def f_X9_reach_53 (x0 x1 : Int) (σ : zM) : Option zO :=
  zloop (fun s : Int × zM => f_X9_reach_53_b x0 s.1 s.2) (x1, σ)
theorem w_X9_reach_53_b {g : zG} {lv : Nat} {out : zO} (x0 x1 : Int) (σ : zM) {r : ((Int × zM) ⊕ zO)} (h : f_X9_reach_53_b x0 x1 σ = some r) (hk : (zKL (fun s : Int × zM => Gj g MX9_reach (lv + 5) 53 [(0, zr x0), (1, zi s.1)] [] s.2 out) (fun o : zO => o = out)) r) : Gj g MX9_reach (lv + 5) 53 [(0, zr x0), (1, zi x1)] [] σ out := by
  revert h
  unfold f_X9_reach_53_b
  refine zst_ (gj_iload_n 1 (pc := 53) dX9_reach_53 rfl) ?_
  refine zst_ (gj_aload_n 0 (pc := 54) dX9_reach_54 rfl) ?_
  refine gb_get (pc := 55) fl930 dX9_reach_55 q1912 (Or.inl rfl) (fun v1 => ?_)
  refine gb_if (gj_icmp_ge 88 (pc := 58) dX9_reach_58 (by decide)) ?_ ?_
  · refine zst_ (gj_sub [0] rfl) ?_
    intro h
    obtain ⟨r0, h0, rfl⟩ := zmE h
    exact w_X9_reach_88 x0 σ h0 hk
  · refine zst_ (gj_aload_n 0 (pc := 61) dX9_reach_61 rfl) ?_
    refine gb_get (pc := 62) fl958 dX9_reach_62 q1940 (Or.inl rfl) (fun v2 => ?_)
    refine zst_ (gj_iload_n 1 (pc := 65) dX9_reach_65 rfl) ?_
    refine zst_ (gj_aload_n 0 (pc := 66) dX9_reach_66 rfl) ?_
    refine zst_ (gj_iload_n 1 (pc := 67) dX9_reach_67 rfl) ?_
    refine zst_ (gj_aload_n 0 (pc := 68) dX9_reach_68 rfl) ?_
    refine zst_ (gj_aload_n 0 (pc := 69) dX9_reach_69 rfl) ?_
    refine gb_get (pc := 70) fl932 dX9_reach_70 q1914 (Or.inl rfl) (fun v3 => ?_)
    refine zst_ (gj_iload_n 1 (pc := 73) dX9_reach_73 rfl) ?_
    refine gb_iald (pc := 74) dX9_reach_74 (fun v4 => ?_)
    refine gb_gd (fun hb => ?_)
    refine gb_callI (pc := 75) (as := [zr x0, zi v4]) (rest := [zi x1, zr x0, zi x1, zr v2]) (zCl.of (zLk_V (M := MX9_reach) (ci := 9) (r := (RX9, TX9, 84)) plX9_instead.1 rfl rfl (zisE hb).1 (zisE hb).2 dX9_reach_75 q2221 q2223 qs62 q2224) plX9_instead (Nat.le_of_ble_eq_true rfl) (fun h => c_X9_instead h)) (fun v5 σ6 => ?_)
    refine gb_gd (fun hb => ?_)
    refine gb_callI (pc := 78) (as := [zr x0, zi x1, zi v5]) (rest := [zi x1, zr v2]) (zCl.of (zLk_V (M := MX9_reach) (ci := 9) (r := (RX9, TX9, 84)) plX9_pointOf.1 rfl rfl (zisE hb).1 (zisE hb).2 dX9_reach_78 q2233 q2235 qs65 q2236) plX9_pointOf (Nat.le_of_ble_eq_true rfl) (fun h => c_X9_pointOf h)) (fun v7 σ8 => ?_)
    refine gb_iast (pc := 81) dX9_reach_81 (fun σ9 => ?_)
    refine gb_iinc (pc := 82) 1 (fun y10 => [(1, zi y10), (0, zr x0)]) dX9_reach_82 rfl (by decide) (fun _ => rfl) (fun y10 => ?_)
    refine zst_ (gj_goto 53 (pc := 85) dX9_reach_85 (by decide)) ?_
    refine zst_ (gj_sub [1, 0] rfl) ?_
    intro h
    cases h
    exact hk
theorem w_X9_reach_53 {g : zG} {lv : Nat} {out : zO} (x0 x1 : Int) (σ : zM) {r : zO} (h : f_X9_reach_53 x0 x1 σ = some r) (hk : (fun o : zO => o = out) r) : Gj g MX9_reach (lv + 5) 53 [(0, zr x0), (1, zi x1)] [] σ out :=
  gj_loop (P := (fun s : Int × zM => Gj g MX9_reach (lv + 5) 53 [(0, zr x0), (1, zi s.1)] [] s.2 out)) (fun s x hb hx => w_X9_reach_53_b x0 s.1 s.2 hb hx) h hk
noncomputable def f_X9_reach_51 (x0 : Int) (σ : zM) : Option zO :=
  f_X9_reach_53 x0 0 σ
theorem w_X9_reach_51 {g : zG} {lv : Nat} {out : zO} (x0 : Int) (σ : zM) {r : zO} (h : f_X9_reach_51 x0 σ = some r) (hk : (fun o : zO => o = out) r) : Gj g MX9_reach (lv + 5) 51 [(0, zr x0)] [] σ out := by
  revert h
  unfold f_X9_reach_51
  refine zst_ (gj_iconst (pc := 51) dX9_reach_51 (by decide)) ?_
  refine zst_ (gj_istore_n (pc := 52) (ls' := [(1, zi 0), (0, zr x0)]) dX9_reach_52 (by decide) rfl) ?_
  refine zst_ (gj_sub [1, 0] rfl) ?_
  exact fun h => w_X9_reach_53 x0 0 σ h hk
noncomputable def f_X9_reach_30_b (x0 x1 : Int) (σ : zM) : Option ((Int × zM) ⊕ zO) :=
  (zgf σ 908 x0).bind fun v1 =>
  if v1 ≤ x1 then
    (f_X9_reach_51 x0 σ).map (fun r => (.inr r))
  else
    (zgf σ 956 x0).bind fun v2 =>
    (zpa σ 101 v2 x1 0).bind fun σ3 =>
    zlet (zadd x1 1) fun y4 =>
    some (.inl (y4, σ3))
noncomputable def f_X9_reach_30 (x0 x1 : Int) (σ : zM) : Option zO :=
  zloop (fun s : Int × zM => f_X9_reach_30_b x0 s.1 s.2) (x1, σ)
theorem w_X9_reach_30_b {g : zG} {lv : Nat} {out : zO} (x0 x1 : Int) (σ : zM) {r : ((Int × zM) ⊕ zO)} (h : f_X9_reach_30_b x0 x1 σ = some r) (hk : (zKL (fun s : Int × zM => Gj g MX9_reach (lv + 5) 30 [(0, zr x0), (1, zi s.1)] [] s.2 out) (fun o : zO => o = out)) r) : Gj g MX9_reach (lv + 5) 30 [(0, zr x0), (1, zi x1)] [] σ out := by
  revert h
  unfold f_X9_reach_30_b
  refine zst_ (gj_iload_n 1 (pc := 30) dX9_reach_30 rfl) ?_
  refine zst_ (gj_aload_n 0 (pc := 31) dX9_reach_31 rfl) ?_
  refine gb_get (pc := 32) fl908 dX9_reach_32 q1890 (Or.inl rfl) (fun v1 => ?_)
  refine gb_if (gj_icmp_ge 51 (pc := 35) dX9_reach_35 (by decide)) ?_ ?_
  · refine zst_ (gj_sub [0] rfl) ?_
    intro h
    obtain ⟨r0, h0, rfl⟩ := zmE h
    exact w_X9_reach_51 x0 σ h0 hk
  · refine zst_ (gj_aload_n 0 (pc := 38) dX9_reach_38 rfl) ?_
    refine gb_get (pc := 39) fl956 dX9_reach_39 q1938 (Or.inl rfl) (fun v2 => ?_)
    refine zst_ (gj_iload_n 1 (pc := 42) dX9_reach_42 rfl) ?_
    refine zst_ (gj_iconst (pc := 43) dX9_reach_43 (by decide)) ?_
    refine gb_iast (pc := 44) dX9_reach_44 (fun σ3 => ?_)
    refine gb_iinc (pc := 45) 1 (fun y4 => [(1, zi y4), (0, zr x0)]) dX9_reach_45 rfl (by decide) (fun _ => rfl) (fun y4 => ?_)
    refine zst_ (gj_goto 30 (pc := 48) dX9_reach_48 (by decide)) ?_
    refine zst_ (gj_sub [1, 0] rfl) ?_
    intro h
    cases h
    exact hk
theorem w_X9_reach_30 {g : zG} {lv : Nat} {out : zO} (x0 x1 : Int) (σ : zM) {r : zO} (h : f_X9_reach_30 x0 x1 σ = some r) (hk : (fun o : zO => o = out) r) : Gj g MX9_reach (lv + 5) 30 [(0, zr x0), (1, zi x1)] [] σ out :=
  gj_loop (P := (fun s : Int × zM => Gj g MX9_reach (lv + 5) 30 [(0, zr x0), (1, zi s.1)] [] s.2 out)) (fun s x hb hx => w_X9_reach_30_b x0 s.1 s.2 hb hx) h hk
noncomputable def f_X9_reach_28 (x0 : Int) (σ : zM) : Option zO :=
  f_X9_reach_30 x0 0 σ
theorem w_X9_reach_28 {g : zG} {lv : Nat} {out : zO} (x0 : Int) (σ : zM) {r : zO} (h : f_X9_reach_28 x0 σ = some r) (hk : (fun o : zO => o = out) r) : Gj g MX9_reach (lv + 5) 28 [(0, zr x0)] [] σ out := by
  revert h
  unfold f_X9_reach_28
  refine zst_ (gj_iconst (pc := 28) dX9_reach_28 (by decide)) ?_
  refine zst_ (gj_istore_n (pc := 29) (ls' := [(1, zi 0), (0, zr x0)]) dX9_reach_29 (by decide) rfl) ?_
  refine zst_ (gj_sub [1, 0] rfl) ?_
  exact fun h => w_X9_reach_30 x0 0 σ h hk
noncomputable def f_X9_reach_2_b (x0 x1 : Int) (σ : zM) : Option ((Int × zM) ⊕ zO) :=
  (zgf σ 907 x0).bind fun v1 =>
  if v1 ≤ x1 then
    (f_X9_reach_28 x0 σ).map (fun r => (.inr r))
  else
    (zgf σ 955 x0).bind fun v2 =>
    (zgf σ 911 x0).bind fun v3 =>
    (zga σ 101 v3 x1).bind fun v4 =>
    (zpa σ 101 v2 x1 v4).bind fun σ5 =>
    zlet (zadd x1 1) fun y6 =>
    some (.inl (y6, σ5))
noncomputable def f_X9_reach_2 (x0 x1 : Int) (σ : zM) : Option zO :=
  zloop (fun s : Int × zM => f_X9_reach_2_b x0 s.1 s.2) (x1, σ)
theorem w_X9_reach_2_b {g : zG} {lv : Nat} {out : zO} (x0 x1 : Int) (σ : zM) {r : ((Int × zM) ⊕ zO)} (h : f_X9_reach_2_b x0 x1 σ = some r) (hk : (zKL (fun s : Int × zM => Gj g MX9_reach (lv + 5) 2 [(0, zr x0), (1, zi s.1)] [] s.2 out) (fun o : zO => o = out)) r) : Gj g MX9_reach (lv + 5) 2 [(0, zr x0), (1, zi x1)] [] σ out := by
  revert h
  unfold f_X9_reach_2_b
  refine zst_ (gj_iload_n 1 (pc := 2) dX9_reach_2 rfl) ?_
  refine zst_ (gj_aload_n 0 (pc := 3) dX9_reach_3 rfl) ?_
  refine gb_get (pc := 4) fl907 dX9_reach_4 q1889 (Or.inl rfl) (fun v1 => ?_)
  refine gb_if (gj_icmp_ge 28 (pc := 7) dX9_reach_7 (by decide)) ?_ ?_
  · refine zst_ (gj_sub [0] rfl) ?_
    intro h
    obtain ⟨r0, h0, rfl⟩ := zmE h
    exact w_X9_reach_28 x0 σ h0 hk
  · refine zst_ (gj_aload_n 0 (pc := 10) dX9_reach_10 rfl) ?_
    refine gb_get (pc := 11) fl955 dX9_reach_11 q1937 (Or.inl rfl) (fun v2 => ?_)
    refine zst_ (gj_iload_n 1 (pc := 14) dX9_reach_14 rfl) ?_
    refine zst_ (gj_aload_n 0 (pc := 15) dX9_reach_15 rfl) ?_
    refine gb_get (pc := 16) fl911 dX9_reach_16 q1893 (Or.inl rfl) (fun v3 => ?_)
    refine zst_ (gj_iload_n 1 (pc := 19) dX9_reach_19 rfl) ?_
    refine gb_iald (pc := 20) dX9_reach_20 (fun v4 => ?_)
    refine gb_iast (pc := 21) dX9_reach_21 (fun σ5 => ?_)
    refine gb_iinc (pc := 22) 1 (fun y6 => [(1, zi y6), (0, zr x0)]) dX9_reach_22 rfl (by decide) (fun _ => rfl) (fun y6 => ?_)
    refine zst_ (gj_goto 2 (pc := 25) dX9_reach_25 (by decide)) ?_
    refine zst_ (gj_sub [1, 0] rfl) ?_
    intro h
    cases h
    exact hk
theorem w_X9_reach_2 {g : zG} {lv : Nat} {out : zO} (x0 x1 : Int) (σ : zM) {r : zO} (h : f_X9_reach_2 x0 x1 σ = some r) (hk : (fun o : zO => o = out) r) : Gj g MX9_reach (lv + 5) 2 [(0, zr x0), (1, zi x1)] [] σ out :=
  gj_loop (P := (fun s : Int × zM => Gj g MX9_reach (lv + 5) 2 [(0, zr x0), (1, zi s.1)] [] s.2 out)) (fun s x hb hx => w_X9_reach_2_b x0 s.1 s.2 hb hx) h hk
noncomputable def f_X9_reach (x0 : Int) (σ : zM) : Option zO :=
  f_X9_reach_2 x0 0 σ
theorem c_X9_reach {g : zG} {lv : Nat} {x0 : Int} {σ : zM} {out : zO} (h : f_X9_reach x0 σ = some out) : Cj g (lv + 5) MX9_reach [zr x0] σ out := by
  refine cj_go (ls := [(0, zr x0)]) (by decide) (Nat.le_of_ble_eq_true rfl) rfl (zgen h (fun r hk => ?_))
  unfold f_X9_reach
  refine zst_ (gj_iconst (pc := 0) dX9_reach_0 (by decide)) ?_
  refine zst_ (gj_istore_n (pc := 1) (ls' := [(1, zi 0), (0, zr x0)]) dX9_reach_1 (by decide) rfl) ?_
  refine zst_ (gj_sub [1, 0] rfl) ?_
  exact fun h => w_X9_reach_2 x0 0 σ h hk
theorem q1888 : (Jvm.Cond.fieldLink "LassoFinderModel" (361 : Nat) "LassoFinderModel" "there" "Z") ∈ lw_all := lw_g (lw_at lw_m8 108 rfl) rfl
theorem q1943 : (Jvm.Cond.fieldLink "LassoFinderModel" (358 : Nat) "LassoFinderModel" "asked" "Z") ∈ lw_all := lw_g (lw_at lw_m8 163 rfl) rfl
theorem q1949 : (Jvm.Cond.fieldLink "LassoFinderModel" (367 : Nat) "LassoFinderModel" "modelCodes" "I") ∈ lw_all := lw_g (lw_at lw_m8 169 rfl) rfl
theorem q2149 : (Jvm.Cond.code ({ cls := "LassoFinderModel", name := "model", desc := "()I" } : Jvm.MethodName) prog_22_method_39_code (2 : Nat) (Option.some Jvm.ClassFile.FieldType.int)) ∈ lw_all := lw_g (lw_at lw_m9 129 rfl) rfl
theorem q2150 : (Jvm.Cond.methodLink "LassoFinderModel" (364 : Nat) ({ cls := "LassoFinderModel", name := "wholeModel", desc := "()Z" } : Jvm.MethodName)) ∈ lw_all := lw_g (lw_at lw_m9 130 rfl) rfl
theorem q2152 : (Jvm.Cond.instanceMethod ({ cls := "LassoFinderModel", name := "wholeModel", desc := "()Z" } : Jvm.MethodName)) ∈ lw_all := lw_g (lw_at lw_m9 132 rfl) rfl
theorem q2229 : (Jvm.Cond.methodLink "LassoFinderModel" (370 : Nat) ({ cls := "LassoFinderModel", name := "link", desc := "()V" } : Jvm.MethodName)) ∈ lw_all := lw_g (lw_at lw_m9 209 rfl) rfl
theorem q2231 : (Jvm.Cond.instanceMethod ({ cls := "LassoFinderModel", name := "link", desc := "()V" } : Jvm.MethodName)) ∈ lw_all := lw_g (lw_at lw_m9 211 rfl) rfl
theorem q2237 : (Jvm.Cond.methodLink "LassoFinderModel" (373 : Nat) ({ cls := "LassoFinderModel", name := "reach", desc := "()Z" } : Jvm.MethodName)) ∈ lw_all := lw_g (lw_at lw_m9 217 rfl) rfl
theorem q2239 : (Jvm.Cond.instanceMethod ({ cls := "LassoFinderModel", name := "reach", desc := "()Z" } : Jvm.MethodName)) ∈ lw_all := lw_g (lw_at lw_m9 219 rfl) rfl
theorem fl906 : zfl 906 0 "LassoFinderModel" "there" "Z" false := ⟨rfl, rfl, rfl⟩
theorem fr906 {g : zG} {v : Int} (h : z01 v = true) : zok g (0, v) → zokt g (zft 906) v := fun _ => z01E h
theorem fl961 : zfl 961 0 "LassoFinderModel" "asked" "Z" false := ⟨rfl, rfl, rfl⟩
theorem fr961 {g : zG} {v : Int} (h : z01 v = true) : zok g (0, v) → zokt g (zft 961) v := fun _ => z01E h
theorem fl967 : zfl 967 0 "LassoFinderModel" "modelCodes" "I" false := ⟨rfl, rfl, rfl⟩
theorem fr967 {g : zG} {v : Int} : zok g (0, v) → zokt g (zft 967) v := fun h => h
abbrev cX9_model : ByteArray := prog_22_method_39_code
def yX9_model : MethodName := ⟨RX9, "model", "()I"⟩
theorem dX9_model_0 : decode cX9_model 0 = .ok (.aload_n 0, 1) := by decide +kernel
theorem dX9_model_1 : decode cX9_model 1 = .ok (.iconst 0, 1) := by decide +kernel
theorem dX9_model_2 : decode cX9_model 2 = .ok (.putfield 358, 3) := by decide +kernel
theorem dX9_model_5 : decode cX9_model 5 = .ok (.aload_n 0, 1) := by decide +kernel
theorem dX9_model_6 : decode cX9_model 6 = .ok (.iconst (-1), 1) := by decide +kernel
theorem dX9_model_7 : decode cX9_model 7 = .ok (.putfield 178, 3) := by decide +kernel
theorem dX9_model_10 : decode cX9_model 10 = .ok (.aload_n 0, 1) := by decide +kernel
theorem dX9_model_11 : decode cX9_model 11 = .ok (.iconst (-1), 1) := by decide +kernel
theorem dX9_model_12 : decode cX9_model 12 = .ok (.putfield 187, 3) := by decide +kernel
theorem dX9_model_15 : decode cX9_model 15 = .ok (.aload_n 0, 1) := by decide +kernel
theorem dX9_model_16 : decode cX9_model 16 = .ok (.iconst 0, 1) := by decide +kernel
theorem dX9_model_17 : decode cX9_model 17 = .ok (.putfield 361, 3) := by decide +kernel
theorem dX9_model_20 : decode cX9_model 20 = .ok (.aload_n 0, 1) := by decide +kernel
theorem dX9_model_21 : decode cX9_model 21 = .ok (.invokevirtual 364, 3) := by decide +kernel
theorem dX9_model_24 : decode cX9_model 24 = .ok (.istore_n 1, 1) := by decide +kernel
theorem dX9_model_25 : decode cX9_model 25 = .ok (.aload_n 0, 1) := by decide +kernel
theorem dX9_model_26 : decode cX9_model 26 = .ok (.iload_n 1, 1) := by decide +kernel
theorem dX9_model_27 : decode cX9_model 27 = .ok (.ifCond .eq 7, 3) := by decide +kernel
theorem dX9_model_30 : decode cX9_model 30 = .ok (.iconst (-1), 1) := by decide +kernel
theorem dX9_model_31 : decode cX9_model 31 = .ok (.goto 7, 3) := by decide +kernel
theorem dX9_model_34 : decode cX9_model 34 = .ok (.aload_n 0, 1) := by decide +kernel
theorem dX9_model_35 : decode cX9_model 35 = .ok (.getfield 206, 3) := by decide +kernel
theorem dX9_model_38 : decode cX9_model 38 = .ok (.putfield 13, 3) := by decide +kernel
theorem dX9_model_41 : decode cX9_model 41 = .ok (.aload_n 0, 1) := by decide +kernel
theorem dX9_model_42 : decode cX9_model 42 = .ok (.iconst 0, 1) := by decide +kernel
theorem dX9_model_43 : decode cX9_model 43 = .ok (.putfield 200, 3) := by decide +kernel
theorem dX9_model_46 : decode cX9_model 46 = .ok (.aload_n 0, 1) := by decide +kernel
theorem dX9_model_47 : decode cX9_model 47 = .ok (.iload_n 1, 1) := by decide +kernel
theorem dX9_model_48 : decode cX9_model 48 = .ok (.ifCond .eq 7, 3) := by decide +kernel
theorem dX9_model_51 : decode cX9_model 51 = .ok (.iconst 0, 1) := by decide +kernel
theorem dX9_model_52 : decode cX9_model 52 = .ok (.goto 4, 3) := by decide +kernel
theorem dX9_model_55 : decode cX9_model 55 = .ok (.iconst 1, 1) := by decide +kernel
theorem dX9_model_56 : decode cX9_model 56 = .ok (.putfield 193, 3) := by decide +kernel
theorem dX9_model_59 : decode cX9_model 59 = .ok (.iload_n 1, 1) := by decide +kernel
theorem dX9_model_60 : decode cX9_model 60 = .ok (.ifCond .ne 5, 3) := by decide +kernel
theorem dX9_model_63 : decode cX9_model 63 = .ok (.iconst 0, 1) := by decide +kernel
theorem dX9_model_64 : decode cX9_model 64 = .ok (.ireturn, 1) := by decide +kernel
theorem dX9_model_65 : decode cX9_model 65 = .ok (.aload_n 0, 1) := by decide +kernel
theorem dX9_model_66 : decode cX9_model 66 = .ok (.aload_n 0, 1) := by decide +kernel
theorem dX9_model_67 : decode cX9_model 67 = .ok (.getfield 217, 3) := by decide +kernel
theorem dX9_model_70 : decode cX9_model 70 = .ok (.putfield 367, 3) := by decide +kernel
theorem dX9_model_73 : decode cX9_model 73 = .ok (.aload_n 0, 1) := by decide +kernel
theorem dX9_model_74 : decode cX9_model 74 = .ok (.invokevirtual 370, 3) := by decide +kernel
theorem dX9_model_77 : decode cX9_model 77 = .ok (.aload_n 0, 1) := by decide +kernel
theorem dX9_model_78 : decode cX9_model 78 = .ok (.aload_n 0, 1) := by decide +kernel
theorem dX9_model_79 : decode cX9_model 79 = .ok (.invokevirtual 373, 3) := by decide +kernel
theorem dX9_model_82 : decode cX9_model 82 = .ok (.putfield 361, 3) := by decide +kernel
theorem dX9_model_85 : decode cX9_model 85 = .ok (.aload_n 0, 1) := by decide +kernel
theorem dX9_model_86 : decode cX9_model 86 = .ok (.aload_n 0, 1) := by decide +kernel
theorem dX9_model_87 : decode cX9_model 87 = .ok (.getfield 361, 3) := by decide +kernel
theorem dX9_model_90 : decode cX9_model 90 = .ok (.ifCond .eq 7, 3) := by decide +kernel
theorem dX9_model_93 : decode cX9_model 93 = .ok (.iconst 0, 1) := by decide +kernel
theorem dX9_model_94 : decode cX9_model 94 = .ok (.goto 4, 3) := by decide +kernel
theorem dX9_model_97 : decode cX9_model 97 = .ok (.iconst 2, 1) := by decide +kernel
theorem dX9_model_98 : decode cX9_model 98 = .ok (.putfield 193, 3) := by decide +kernel
theorem dX9_model_101 : decode cX9_model 101 = .ok (.aload_n 0, 1) := by decide +kernel
theorem dX9_model_102 : decode cX9_model 102 = .ok (.getfield 361, 3) := by decide +kernel
theorem dX9_model_105 : decode cX9_model 105 = .ok (.ifCond .eq 10, 3) := by decide +kernel
theorem dX9_model_108 : decode cX9_model 108 = .ok (.aload_n 0, 1) := by decide +kernel
theorem dX9_model_109 : decode cX9_model 109 = .ok (.getfield 345, 3) := by decide +kernel
theorem dX9_model_112 : decode cX9_model 112 = .ok (.goto 4, 3) := by decide +kernel
theorem dX9_model_115 : decode cX9_model 115 = .ok (.iconst 0, 1) := by decide +kernel
theorem dX9_model_116 : decode cX9_model 116 = .ok (.ireturn, 1) := by decide +kernel
abbrev MX9_model : zT := (yX9_model, cX9_model, 2, (Option.some Jvm.ClassFile.FieldType.int), [])
theorem plX9_model : zplain MX9_model 0 ∧ (zcodeW MX9_model ∈ lw_all ∧ Cond.initialized MX9_model.1.cls ∈ lw_all) := ⟨⟨by decide +kernel, by decide +kernel⟩, q2149, q127⟩
noncomputable def f_X9_model_116 (t0 : Int) (σ : zM) : Option zO :=
  some (0, zi t0, σ)
theorem w_X9_model_116 {g : zG} {lv : Nat} {out : zO} (t0 : Int) (σ : zM) {r : zO} (h : f_X9_model_116 t0 σ = some r) (hk : (fun o : zO => o = out) r) : Gj g MX9_model (lv + 7) 116 [] [zi t0] σ out := by
  revert h
  unfold f_X9_model_116
  intro h
  cases h
  have hk : (0, zi t0, σ) = out := hk
  subst hk
  exact gj_ret (pc := 116) (t := .int) dX9_model_116 rfl ⟨rfl, rfl⟩ (fun h => h)
noncomputable def f_X9_model_98 (x0 t0 t1 : Int) (σ : zM) : Option zO :=
  (zpf σ 900 t1 t0).bind fun σ1 =>
  (zgf σ1 906 x0).bind fun v2 =>
  if v2 = 0 then
    f_X9_model_116 0 σ1
  else
    (zgf σ1 944 x0).bind fun v3 =>
    f_X9_model_116 v3 σ1
theorem w_X9_model_98 {g : zG} {lv : Nat} {out : zO} (x0 t0 t1 : Int) (σ : zM) {r : zO} (h : f_X9_model_98 x0 t0 t1 σ = some r) (hk : (fun o : zO => o = out) r) : Gj g MX9_model (lv + 7) 98 [(0, zr x0)] [zi t0, zr t1] σ out := by
  revert h
  unfold f_X9_model_98
  refine gb_put (pc := 98) fl900 fr900 dX9_model_98 q1882 (Or.inl rfl) (fun σ1 => ?_)
  refine zst_ (gj_aload_n 0 (pc := 101) dX9_model_101 rfl) ?_
  refine gb_get (pc := 102) fl906 dX9_model_102 q1888 (Or.inl rfl) (fun v2 => ?_)
  refine gb_if (gj_if_eq 115 (pc := 105) dX9_model_105 (by decide)) ?_ ?_
  · refine zst_ (gj_iconst (pc := 115) dX9_model_115 (by decide)) ?_
    refine zst_ (gj_sub [] rfl) ?_
    exact fun h => w_X9_model_116 0 σ1 h hk
  · refine zst_ (gj_aload_n 0 (pc := 108) dX9_model_108 rfl) ?_
    refine gb_get (pc := 109) fl944 dX9_model_109 q1926 (Or.inl rfl) (fun v3 => ?_)
    refine zst_ (gj_goto 116 (pc := 112) dX9_model_112 (by decide)) ?_
    refine zst_ (gj_sub [] rfl) ?_
    exact fun h => w_X9_model_116 v3 σ1 h hk
noncomputable def f_X9_model_56 (x0 x1 t0 t1 : Int) (σ : zM) : Option zO :=
  (zpf σ 900 t1 t0).bind fun σ1 =>
  if x1 ≠ 0 then
    (zgf σ1 936 x0).bind fun v2 =>
    (zpf σ1 967 x0 v2).bind fun σ3 =>
    zgd (zis σ3 10 x0) <|
    zcv (f_X9_link x0 σ3) fun σ4 =>
    zgd (zis σ4 10 x0) <|
    zci (f_X9_reach x0 σ4) fun v5 σ6 =>
    zgd (z01 v5) <|
    (zpf σ6 906 x0 v5).bind fun σ7 =>
    (zgf σ7 906 x0).bind fun v8 =>
    if v8 = 0 then
      f_X9_model_98 x0 2 x0 σ7
    else
      f_X9_model_98 x0 0 x0 σ7
  else
    some (0, zi 0, σ1)
theorem w_X9_model_56 {g : zG} {lv : Nat} {out : zO} (x0 x1 t0 t1 : Int) (σ : zM) {r : zO} (h : f_X9_model_56 x0 x1 t0 t1 σ = some r) (hk : (fun o : zO => o = out) r) : Gj g MX9_model (lv + 7) 56 [(0, zr x0), (1, zi x1)] [zi t0, zr t1] σ out := by
  revert h
  unfold f_X9_model_56
  refine gb_put (pc := 56) fl900 fr900 dX9_model_56 q1882 (Or.inl rfl) (fun σ1 => ?_)
  refine zst_ (gj_iload_n 1 (pc := 59) dX9_model_59 rfl) ?_
  refine gb_if (gj_if_ne 65 (pc := 60) dX9_model_60 (by decide)) ?_ ?_
  · refine zst_ (gj_aload_n 0 (pc := 65) dX9_model_65 rfl) ?_
    refine zst_ (gj_aload_n 0 (pc := 66) dX9_model_66 rfl) ?_
    refine gb_get (pc := 67) fl936 dX9_model_67 q1918 (Or.inl rfl) (fun v2 => ?_)
    refine gb_put (pc := 70) fl967 fr967 dX9_model_70 q1949 (Or.inl rfl) (fun σ3 => ?_)
    refine zst_ (gj_aload_n 0 (pc := 73) dX9_model_73 rfl) ?_
    refine gb_gd (fun hb => ?_)
    refine gb_callV (pc := 74) (as := [zr x0]) (rest := []) (zCl.of (zLk_V (M := MX9_model) (ci := 9) (r := (RX9, TX9, 84)) plX9_link.1 rfl rfl (zisE hb).1 (zisE hb).2 dX9_model_74 q2229 q2231 qs64 q2232) plX9_link (Nat.le_of_ble_eq_true rfl) (fun h => c_X9_link h)) (fun σ4 => ?_)
    refine zst_ (gj_aload_n 0 (pc := 77) dX9_model_77 rfl) ?_
    refine zst_ (gj_aload_n 0 (pc := 78) dX9_model_78 rfl) ?_
    refine gb_gd (fun hb => ?_)
    refine gb_callI (pc := 79) (as := [zr x0]) (rest := [zr x0]) (zCl.of (zLk_V (M := MX9_model) (ci := 9) (r := (RX9, TX9, 84)) plX9_reach.1 rfl rfl (zisE hb).1 (zisE hb).2 dX9_model_79 q2237 q2239 qs66 q2240) plX9_reach (Nat.le_of_ble_eq_true rfl) (fun h => c_X9_reach h)) (fun v5 σ6 => ?_)
    refine gb_gd (fun hb => ?_)
    refine gb_put (pc := 82) fl906 (fr906 hb) dX9_model_82 q1888 (Or.inl rfl) (fun σ7 => ?_)
    refine zst_ (gj_aload_n 0 (pc := 85) dX9_model_85 rfl) ?_
    refine zst_ (gj_aload_n 0 (pc := 86) dX9_model_86 rfl) ?_
    refine gb_get (pc := 87) fl906 dX9_model_87 q1888 (Or.inl rfl) (fun v8 => ?_)
    refine gb_if (gj_if_eq 97 (pc := 90) dX9_model_90 (by decide)) ?_ ?_
    · refine zst_ (gj_iconst (pc := 97) dX9_model_97 (by decide)) ?_
      refine zst_ (gj_sub [0] rfl) ?_
      exact fun h => w_X9_model_98 x0 2 x0 σ7 h hk
    · refine zst_ (gj_iconst (pc := 93) dX9_model_93 (by decide)) ?_
      refine zst_ (gj_goto 98 (pc := 94) dX9_model_94 (by decide)) ?_
      refine zst_ (gj_sub [0] rfl) ?_
      exact fun h => w_X9_model_98 x0 0 x0 σ7 h hk
  · refine zst_ (gj_iconst (pc := 63) dX9_model_63 (by decide)) ?_
    intro h
    cases h
    have hk : (0, zi 0, σ1) = out := hk
    subst hk
    exact gj_ret (pc := 64) (t := .int) dX9_model_64 rfl ⟨rfl, rfl⟩ (fun h => h)
noncomputable def f_X9_model_38 (x0 x1 t0 t1 : Int) (σ : zM) : Option zO :=
  (zpf σ 905 t1 t0).bind fun σ1 =>
  (zpf σ1 901 x0 0).bind fun σ2 =>
  if x1 = 0 then
    f_X9_model_56 x0 x1 1 x0 σ2
  else
    f_X9_model_56 x0 x1 0 x0 σ2
theorem w_X9_model_38 {g : zG} {lv : Nat} {out : zO} (x0 x1 t0 t1 : Int) (σ : zM) {r : zO} (h : f_X9_model_38 x0 x1 t0 t1 σ = some r) (hk : (fun o : zO => o = out) r) : Gj g MX9_model (lv + 7) 38 [(0, zr x0), (1, zi x1)] [zi t0, zr t1] σ out := by
  revert h
  unfold f_X9_model_38
  refine gb_put (pc := 38) fl905 fr905 dX9_model_38 q1887 (Or.inl rfl) (fun σ1 => ?_)
  refine zst_ (gj_aload_n 0 (pc := 41) dX9_model_41 rfl) ?_
  refine zst_ (gj_iconst (pc := 42) dX9_model_42 (by decide)) ?_
  refine gb_put (pc := 43) fl901 fr901 dX9_model_43 q1883 (Or.inl rfl) (fun σ2 => ?_)
  refine zst_ (gj_aload_n 0 (pc := 46) dX9_model_46 rfl) ?_
  refine zst_ (gj_iload_n 1 (pc := 47) dX9_model_47 rfl) ?_
  refine gb_if (gj_if_eq 55 (pc := 48) dX9_model_48 (by decide)) ?_ ?_
  · refine zst_ (gj_iconst (pc := 55) dX9_model_55 (by decide)) ?_
    exact fun h => w_X9_model_56 x0 x1 1 x0 σ2 h hk
  · refine zst_ (gj_iconst (pc := 51) dX9_model_51 (by decide)) ?_
    refine zst_ (gj_goto 56 (pc := 52) dX9_model_52 (by decide)) ?_
    exact fun h => w_X9_model_56 x0 x1 0 x0 σ2 h hk
noncomputable def f_X9_model (x0 : Int) (σ : zM) : Option zO :=
  zgd (z01 0) <|
  (zpf σ 961 x0 0).bind fun σ1 =>
  (zpf σ1 978 x0 (-1)).bind fun σ2 =>
  (zpf σ2 982 x0 (-1)).bind fun σ3 =>
  zgd (z01 0) <|
  (zpf σ3 906 x0 0).bind fun σ4 =>
  zgd (zis σ4 10 x0) <|
  zci (f_X9_wholeModel x0 σ4) fun v5 σ6 =>
  if v5 = 0 then
    (zgf σ6 904 x0).bind fun v7 =>
    f_X9_model_38 x0 v5 v7 x0 σ6
  else
    f_X9_model_38 x0 v5 (-1) x0 σ6
theorem c_X9_model {g : zG} {lv : Nat} {x0 : Int} {σ : zM} {out : zO} (h : f_X9_model x0 σ = some out) : Cj g (lv + 7) MX9_model [zr x0] σ out := by
  refine cj_go (ls := [(0, zr x0)]) (by decide) (Nat.le_of_ble_eq_true rfl) rfl (zgen h (fun r hk => ?_))
  unfold f_X9_model
  refine zst_ (gj_aload_n 0 (pc := 0) dX9_model_0 rfl) ?_
  refine zst_ (gj_iconst (pc := 1) dX9_model_1 (by decide)) ?_
  refine gb_gd (fun hb => ?_)
  refine gb_put (pc := 2) fl961 (fr961 hb) dX9_model_2 q1943 (Or.inl rfl) (fun σ1 => ?_)
  refine zst_ (gj_aload_n 0 (pc := 5) dX9_model_5 rfl) ?_
  refine zst_ (gj_iconst (pc := 6) dX9_model_6 (by decide)) ?_
  refine gb_put (pc := 7) fl978 fr978 dX9_model_7 q1960 (Or.inl rfl) (fun σ2 => ?_)
  refine zst_ (gj_aload_n 0 (pc := 10) dX9_model_10 rfl) ?_
  refine zst_ (gj_iconst (pc := 11) dX9_model_11 (by decide)) ?_
  refine gb_put (pc := 12) fl982 fr982 dX9_model_12 q1964 (Or.inl rfl) (fun σ3 => ?_)
  refine zst_ (gj_aload_n 0 (pc := 15) dX9_model_15 rfl) ?_
  refine zst_ (gj_iconst (pc := 16) dX9_model_16 (by decide)) ?_
  refine gb_gd (fun hb => ?_)
  refine gb_put (pc := 17) fl906 (fr906 hb) dX9_model_17 q1888 (Or.inl rfl) (fun σ4 => ?_)
  refine zst_ (gj_aload_n 0 (pc := 20) dX9_model_20 rfl) ?_
  refine gb_gd (fun hb => ?_)
  refine gb_callI (pc := 21) (as := [zr x0]) (rest := []) (zCl.of (zLk_V (M := MX9_model) (ci := 9) (r := (RX9, TX9, 84)) plX9_wholeModel.1 rfl rfl (zisE hb).1 (zisE hb).2 dX9_model_21 q2150 q2152 qs45 q2153) plX9_wholeModel (Nat.le_of_ble_eq_true rfl) (fun h => c_X9_wholeModel h)) (fun v5 σ6 => ?_)
  refine zst_ (gj_istore_n (pc := 24) (ls' := [(1, zi v5), (0, zr x0)]) dX9_model_24 (by decide) rfl) ?_
  refine zst_ (gj_aload_n 1 (pc := 25) dX9_model_25 rfl) ?_
  refine zst_ (gj_iload_n 0 (pc := 26) dX9_model_26 rfl) ?_
  refine gb_if (gj_if_eq 34 (pc := 27) dX9_model_27 (by decide)) ?_ ?_
  · refine zst_ (gj_aload_n 1 (pc := 34) dX9_model_34 rfl) ?_
    refine gb_get (pc := 35) fl904 dX9_model_35 q1886 (Or.inl rfl) (fun v7 => ?_)
    refine zst_ (gj_sub [1, 0] rfl) ?_
    exact fun h => w_X9_model_38 x0 v5 v7 x0 σ6 h hk
  · refine zst_ (gj_iconst (pc := 30) dX9_model_30 (by decide)) ?_
    refine zst_ (gj_goto 38 (pc := 31) dX9_model_31 (by decide)) ?_
    refine zst_ (gj_sub [1, 0] rfl) ?_
    exact fun h => w_X9_model_38 x0 v5 (-1) x0 σ6 h hk
theorem q2291 : (Jvm.Cond.code ({ cls := "LassoFinderModel", name := "place", desc := "()I" } : Jvm.MethodName) prog_22_method_40_code (1 : Nat) (Option.some Jvm.ClassFile.FieldType.int)) ∈ lw_all := lw_g (lw_at lw_m10 31 rfl) rfl
abbrev cX9_place : ByteArray := prog_22_method_40_code
def yX9_place : MethodName := ⟨RX9, "place", "()I"⟩
theorem dX9_place_0 : decode cX9_place 0 = .ok (.aload_n 0, 1) := by decide +kernel
theorem dX9_place_1 : decode cX9_place 1 = .ok (.iconst 0, 1) := by decide +kernel
theorem dX9_place_2 : decode cX9_place 2 = .ok (.putfield 193, 3) := by decide +kernel
theorem dX9_place_5 : decode cX9_place 5 = .ok (.aload_n 0, 1) := by decide +kernel
theorem dX9_place_6 : decode cX9_place 6 = .ok (.getfield 13, 3) := by decide +kernel
theorem dX9_place_9 : decode cX9_place 9 = .ok (.ireturn, 1) := by decide +kernel
abbrev MX9_place : zT := (yX9_place, cX9_place, 1, (Option.some Jvm.ClassFile.FieldType.int), [])
theorem plX9_place : zplain MX9_place 0 ∧ (zcodeW MX9_place ∈ lw_all ∧ Cond.initialized MX9_place.1.cls ∈ lw_all) := ⟨⟨by decide +kernel, by decide +kernel⟩, q2291, q127⟩
noncomputable def f_X9_place (x0 : Int) (σ : zM) : Option zO :=
  (zpf σ 900 x0 0).bind fun σ1 =>
  (zgf σ1 905 x0).bind fun v2 =>
  some (0, zi v2, σ1)
theorem c_X9_place {g : zG} {lv : Nat} {x0 : Int} {σ : zM} {out : zO} (h : f_X9_place x0 σ = some out) : Cj g (lv) MX9_place [zr x0] σ out := by
  refine cj_go (ls := [(0, zr x0)]) (by decide) (Nat.le_of_ble_eq_true rfl) rfl (zgen h (fun r hk => ?_))
  unfold f_X9_place
  refine zst_ (gj_aload_n 0 (pc := 0) dX9_place_0 rfl) ?_
  refine zst_ (gj_iconst (pc := 1) dX9_place_1 (by decide)) ?_
  refine gb_put (pc := 2) fl900 fr900 dX9_place_2 q1882 (Or.inl rfl) (fun σ1 => ?_)
  refine zst_ (gj_aload_n 0 (pc := 5) dX9_place_5 rfl) ?_
  refine gb_get (pc := 6) fl905 dX9_place_6 q1887 (Or.inl rfl) (fun v2 => ?_)
  intro h
  cases h
  have hk : (0, zi v2, σ1) = out := hk
  subst hk
  exact gj_ret (pc := 9) (t := .int) dX9_place_9 rfl ⟨rfl, rfl⟩ (fun h => h)
theorem q2306 : (Jvm.Cond.code ({ cls := "LassoFinderModel", name := "binds", desc := "(I)I" } : Jvm.MethodName) prog_22_method_41_code (1 : Nat) (Option.some Jvm.ClassFile.FieldType.int)) ∈ lw_all := lw_g (lw_at lw_m10 46 rfl) rfl
abbrev cX9_binds : ByteArray := prog_22_method_41_code
def yX9_binds : MethodName := ⟨RX9, "binds", "(I)I"⟩
theorem dX9_binds_0 : decode cX9_binds 0 = .ok (.iload_n 0, 1) := by decide +kernel
theorem dX9_binds_1 : decode cX9_binds 1 = .ok (.bipush 16, 2) := by decide +kernel
theorem dX9_binds_3 : decode cX9_binds 3 = .ok (.if_icmp .ne 7, 3) := by decide +kernel
theorem dX9_binds_6 : decode cX9_binds 6 = .ok (.iconst 0, 1) := by decide +kernel
theorem dX9_binds_7 : decode cX9_binds 7 = .ok (.goto 50, 3) := by decide +kernel
theorem dX9_binds_10 : decode cX9_binds 10 = .ok (.iload_n 0, 1) := by decide +kernel
theorem dX9_binds_11 : decode cX9_binds 11 = .ok (.bipush 11, 2) := by decide +kernel
theorem dX9_binds_13 : decode cX9_binds 13 = .ok (.if_icmp .ne 7, 3) := by decide +kernel
theorem dX9_binds_16 : decode cX9_binds 16 = .ok (.iconst 1, 1) := by decide +kernel
theorem dX9_binds_17 : decode cX9_binds 17 = .ok (.goto 40, 3) := by decide +kernel
theorem dX9_binds_20 : decode cX9_binds 20 = .ok (.iload_n 0, 1) := by decide +kernel
theorem dX9_binds_21 : decode cX9_binds 21 = .ok (.bipush 10, 2) := by decide +kernel
theorem dX9_binds_23 : decode cX9_binds 23 = .ok (.if_icmp .ne 7, 3) := by decide +kernel
theorem dX9_binds_26 : decode cX9_binds 26 = .ok (.iconst 2, 1) := by decide +kernel
theorem dX9_binds_27 : decode cX9_binds 27 = .ok (.goto 30, 3) := by decide +kernel
theorem dX9_binds_30 : decode cX9_binds 30 = .ok (.iload_n 0, 1) := by decide +kernel
theorem dX9_binds_31 : decode cX9_binds 31 = .ok (.bipush 9, 2) := by decide +kernel
theorem dX9_binds_33 : decode cX9_binds 33 = .ok (.if_icmp .ne 7, 3) := by decide +kernel
theorem dX9_binds_36 : decode cX9_binds 36 = .ok (.iconst 3, 1) := by decide +kernel
theorem dX9_binds_37 : decode cX9_binds 37 = .ok (.goto 20, 3) := by decide +kernel
theorem dX9_binds_40 : decode cX9_binds 40 = .ok (.iload_n 0, 1) := by decide +kernel
theorem dX9_binds_41 : decode cX9_binds 41 = .ok (.bipush 12, 2) := by decide +kernel
theorem dX9_binds_43 : decode cX9_binds 43 = .ok (.if_icmp .eq 9, 3) := by decide +kernel
theorem dX9_binds_46 : decode cX9_binds 46 = .ok (.iload_n 0, 1) := by decide +kernel
theorem dX9_binds_47 : decode cX9_binds 47 = .ok (.bipush 13, 2) := by decide +kernel
theorem dX9_binds_49 : decode cX9_binds 49 = .ok (.if_icmp .ne 7, 3) := by decide +kernel
theorem dX9_binds_52 : decode cX9_binds 52 = .ok (.iconst 4, 1) := by decide +kernel
theorem dX9_binds_53 : decode cX9_binds 53 = .ok (.goto 4, 3) := by decide +kernel
theorem dX9_binds_56 : decode cX9_binds 56 = .ok (.iconst 5, 1) := by decide +kernel
theorem dX9_binds_57 : decode cX9_binds 57 = .ok (.ireturn, 1) := by decide +kernel
abbrev MX9_binds : zT := (yX9_binds, cX9_binds, 1, (Option.some Jvm.ClassFile.FieldType.int), [])
theorem plX9_binds : zplain MX9_binds 1 ∧ (zcodeW MX9_binds ∈ lw_all ∧ Cond.initialized MX9_binds.1.cls ∈ lw_all) := ⟨⟨by decide +kernel, by decide +kernel⟩, q2306, q127⟩
noncomputable def f_X9_binds_57 (t0 : Int) (σ : zM) : Option zO :=
  some (0, zi t0, σ)
theorem w_X9_binds_57 {g : zG} {lv : Nat} {out : zO} (t0 : Int) (σ : zM) {r : zO} (h : f_X9_binds_57 t0 σ = some r) (hk : (fun o : zO => o = out) r) : Gj g MX9_binds (lv) 57 [] [zi t0] σ out := by
  revert h
  unfold f_X9_binds_57
  intro h
  cases h
  have hk : (0, zi t0, σ) = out := hk
  subst hk
  exact gj_ret (pc := 57) (t := .int) dX9_binds_57 rfl ⟨rfl, rfl⟩ (fun h => h)
noncomputable def f_X9_binds_52 (σ : zM) : Option zO :=
  f_X9_binds_57 4 σ
theorem w_X9_binds_52 {g : zG} {lv : Nat} {out : zO} (σ : zM) {r : zO} (h : f_X9_binds_52  σ = some r) (hk : (fun o : zO => o = out) r) : Gj g MX9_binds (lv) 52 [] [] σ out := by
  revert h
  unfold f_X9_binds_52
  refine zst_ (gj_iconst (pc := 52) dX9_binds_52 (by decide)) ?_
  refine zst_ (gj_goto 57 (pc := 53) dX9_binds_53 (by decide)) ?_
  exact fun h => w_X9_binds_57 4 σ h hk
noncomputable def f_X9_binds (x0 : Int) (σ : zM) : Option zO :=
  if x0 ≠ 16 then
    if x0 ≠ 11 then
      if x0 ≠ 10 then
        if x0 ≠ 9 then
          if x0 = 12 then
            f_X9_binds_52 σ
          else
            if x0 ≠ 13 then
              f_X9_binds_57 5 σ
            else
              f_X9_binds_52 σ
        else
          f_X9_binds_57 3 σ
      else
        f_X9_binds_57 2 σ
    else
      f_X9_binds_57 1 σ
  else
    f_X9_binds_57 0 σ
theorem c_X9_binds {g : zG} {lv : Nat} {x0 : Int} {σ : zM} {out : zO} (h : f_X9_binds x0 σ = some out) : Cj g (lv) MX9_binds [zi x0] σ out := by
  refine cj_go (ls := [(0, zi x0)]) (by decide) (Nat.le_of_ble_eq_true rfl) rfl (zgen h (fun r hk => ?_))
  unfold f_X9_binds
  refine zst_ (gj_iload_n 0 (pc := 0) dX9_binds_0 rfl) ?_
  refine zst_ (gj_bipush (pc := 1) dX9_binds_1 ⟨rfl, by decide⟩) ?_
  refine gb_if (gj_icmp_ne 10 (pc := 3) dX9_binds_3 (by decide)) ?_ ?_
  · refine zst_ (gj_iload_n 0 (pc := 10) dX9_binds_10 rfl) ?_
    refine zst_ (gj_bipush (pc := 11) dX9_binds_11 ⟨rfl, by decide⟩) ?_
    refine gb_if (gj_icmp_ne 20 (pc := 13) dX9_binds_13 (by decide)) ?_ ?_
    · refine zst_ (gj_iload_n 0 (pc := 20) dX9_binds_20 rfl) ?_
      refine zst_ (gj_bipush (pc := 21) dX9_binds_21 ⟨rfl, by decide⟩) ?_
      refine gb_if (gj_icmp_ne 30 (pc := 23) dX9_binds_23 (by decide)) ?_ ?_
      · refine zst_ (gj_iload_n 0 (pc := 30) dX9_binds_30 rfl) ?_
        refine zst_ (gj_bipush (pc := 31) dX9_binds_31 ⟨rfl, by decide⟩) ?_
        refine gb_if (gj_icmp_ne 40 (pc := 33) dX9_binds_33 (by decide)) ?_ ?_
        · refine zst_ (gj_iload_n 0 (pc := 40) dX9_binds_40 rfl) ?_
          refine zst_ (gj_bipush (pc := 41) dX9_binds_41 ⟨rfl, by decide⟩) ?_
          refine gb_if (gj_icmp_eq 52 (pc := 43) dX9_binds_43 (by decide)) ?_ ?_
          · refine zst_ (gj_sub [] rfl) ?_
            exact fun h => w_X9_binds_52 σ h hk
          · refine zst_ (gj_iload_n 0 (pc := 46) dX9_binds_46 rfl) ?_
            refine zst_ (gj_bipush (pc := 47) dX9_binds_47 ⟨rfl, by decide⟩) ?_
            refine gb_if (gj_icmp_ne 56 (pc := 49) dX9_binds_49 (by decide)) ?_ ?_
            · refine zst_ (gj_iconst (pc := 56) dX9_binds_56 (by decide)) ?_
              refine zst_ (gj_sub [] rfl) ?_
              exact fun h => w_X9_binds_57 5 σ h hk
            · refine zst_ (gj_sub [] rfl) ?_
              exact fun h => w_X9_binds_52 σ h hk
        · refine zst_ (gj_iconst (pc := 36) dX9_binds_36 (by decide)) ?_
          refine zst_ (gj_goto 57 (pc := 37) dX9_binds_37 (by decide)) ?_
          refine zst_ (gj_sub [] rfl) ?_
          exact fun h => w_X9_binds_57 3 σ h hk
      · refine zst_ (gj_iconst (pc := 26) dX9_binds_26 (by decide)) ?_
        refine zst_ (gj_goto 57 (pc := 27) dX9_binds_27 (by decide)) ?_
        refine zst_ (gj_sub [] rfl) ?_
        exact fun h => w_X9_binds_57 2 σ h hk
    · refine zst_ (gj_iconst (pc := 16) dX9_binds_16 (by decide)) ?_
      refine zst_ (gj_goto 57 (pc := 17) dX9_binds_17 (by decide)) ?_
      refine zst_ (gj_sub [] rfl) ?_
      exact fun h => w_X9_binds_57 1 σ h hk
  · refine zst_ (gj_iconst (pc := 6) dX9_binds_6 (by decide)) ?_
    refine zst_ (gj_goto 57 (pc := 7) dX9_binds_7 (by decide)) ?_
    refine zst_ (gj_sub [] rfl) ?_
    exact fun h => w_X9_binds_57 0 σ h hk
theorem q2310 : (Jvm.Cond.code ({ cls := "LassoFinderModel", name := "depth", desc := "()I" } : Jvm.MethodName) prog_22_method_42_code (3 : Nat) (Option.some Jvm.ClassFile.FieldType.int)) ∈ lw_all := lw_g (lw_at lw_m10 50 rfl) rfl
abbrev cX9_depth : ByteArray := prog_22_method_42_code
def yX9_depth : MethodName := ⟨RX9, "depth", "()I"⟩
theorem dX9_depth_0 : decode cX9_depth 0 = .ok (.iconst 0, 1) := by decide +kernel
theorem dX9_depth_1 : decode cX9_depth 1 = .ok (.istore_n 1, 1) := by decide +kernel
theorem dX9_depth_2 : decode cX9_depth 2 = .ok (.iconst 0, 1) := by decide +kernel
theorem dX9_depth_3 : decode cX9_depth 3 = .ok (.istore_n 2, 1) := by decide +kernel
theorem dX9_depth_4 : decode cX9_depth 4 = .ok (.iload_n 2, 1) := by decide +kernel
theorem dX9_depth_5 : decode cX9_depth 5 = .ok (.aload_n 0, 1) := by decide +kernel
theorem dX9_depth_6 : decode cX9_depth 6 = .ok (.getfield 220, 3) := by decide +kernel
theorem dX9_depth_9 : decode cX9_depth 9 = .ok (.if_icmp .ge 39, 3) := by decide +kernel
theorem dX9_depth_12 : decode cX9_depth 12 = .ok (.iload_n 1, 1) := by decide +kernel
theorem dX9_depth_13 : decode cX9_depth 13 = .ok (.aload_n 0, 1) := by decide +kernel
theorem dX9_depth_14 : decode cX9_depth 14 = .ok (.getfield 103, 3) := by decide +kernel
theorem dX9_depth_17 : decode cX9_depth 17 = .ok (.iload_n 2, 1) := by decide +kernel
theorem dX9_depth_18 : decode cX9_depth 18 = .ok (.iaload, 1) := by decide +kernel
theorem dX9_depth_19 : decode cX9_depth 19 = .ok (.bipush 9, 2) := by decide +kernel
theorem dX9_depth_21 : decode cX9_depth 21 = .ok (.if_icmp .eq 14, 3) := by decide +kernel
theorem dX9_depth_24 : decode cX9_depth 24 = .ok (.aload_n 0, 1) := by decide +kernel
theorem dX9_depth_25 : decode cX9_depth 25 = .ok (.getfield 103, 3) := by decide +kernel
theorem dX9_depth_28 : decode cX9_depth 28 = .ok (.iload_n 2, 1) := by decide +kernel
theorem dX9_depth_29 : decode cX9_depth 29 = .ok (.iaload, 1) := by decide +kernel
theorem dX9_depth_30 : decode cX9_depth 30 = .ok (.bipush 10, 2) := by decide +kernel
theorem dX9_depth_32 : decode cX9_depth 32 = .ok (.if_icmp .ne 7, 3) := by decide +kernel
theorem dX9_depth_35 : decode cX9_depth 35 = .ok (.iconst 0, 1) := by decide +kernel
theorem dX9_depth_36 : decode cX9_depth 36 = .ok (.goto 4, 3) := by decide +kernel
theorem dX9_depth_39 : decode cX9_depth 39 = .ok (.iconst 1, 1) := by decide +kernel
theorem dX9_depth_40 : decode cX9_depth 40 = .ok (.iadd, 1) := by decide +kernel
theorem dX9_depth_41 : decode cX9_depth 41 = .ok (.istore_n 1, 1) := by decide +kernel
theorem dX9_depth_42 : decode cX9_depth 42 = .ok (.iinc 2 1, 3) := by decide +kernel
theorem dX9_depth_45 : decode cX9_depth 45 = .ok (.goto (-41), 3) := by decide +kernel
theorem dX9_depth_48 : decode cX9_depth 48 = .ok (.iload_n 1, 1) := by decide +kernel
theorem dX9_depth_49 : decode cX9_depth 49 = .ok (.ireturn, 1) := by decide +kernel
abbrev MX9_depth : zT := (yX9_depth, cX9_depth, 3, (Option.some Jvm.ClassFile.FieldType.int), [])
theorem plX9_depth : zplain MX9_depth 0 ∧ (zcodeW MX9_depth ∈ lw_all ∧ Cond.initialized MX9_depth.1.cls ∈ lw_all) := ⟨⟨by decide +kernel, by decide +kernel⟩, q2310, q127⟩
noncomputable def f_X9_depth_48 (x1 : Int) (σ : zM) : Option zO :=
  some (0, zi x1, σ)
theorem w_X9_depth_48 {g : zG} {lv : Nat} {out : zO} (x1 : Int) (σ : zM) {r : zO} (h : f_X9_depth_48 x1 σ = some r) (hk : (fun o : zO => o = out) r) : Gj g MX9_depth (lv) 48 [(1, zi x1)] [] σ out := by
  revert h
  unfold f_X9_depth_48
  refine zst_ (gj_iload_n 0 (pc := 48) dX9_depth_48 rfl) ?_
  intro h
  cases h
  have hk : (0, zi x1, σ) = out := hk
  subst hk
  exact gj_ret (pc := 49) (t := .int) dX9_depth_49 rfl ⟨rfl, rfl⟩ (fun h => h)
noncomputable def f_X9_depth_40 (x0 x2 t0 t1 : Int) (σ : zM) : Option ((Int × Int) ⊕ zO) :=
  zlet ((zadd t1 t0)) fun y1 =>
  zlet (zadd x2 1) fun y2 =>
  some (.inl (y1, y2))
theorem w_X9_depth_40 {g : zG} {lv : Nat} {out : zO} (x0 x2 t0 t1 : Int) (σ : zM) {r : ((Int × Int) ⊕ zO)} (h : f_X9_depth_40 x0 x2 t0 t1 σ = some r) (hk : (zKL (fun s : Int × Int => Gj g MX9_depth (lv) 4 [(0, zr x0), (1, zi s.1), (2, zi s.2)] [] σ out) (fun o : zO => o = out)) r) : Gj g MX9_depth (lv) 40 [(0, zr x0), (2, zi x2)] [zi t0, zi t1] σ out := by
  revert h
  unfold f_X9_depth_40
  refine zst_ (gj_iadd (pc := 40) dX9_depth_40) ?_
  refine gb_let (fun y1 => ?_)
  refine zst_ (gj_istore_n (pc := 41) (ls' := [(1, zi y1), (0, zr x0), (2, zi x2)]) dX9_depth_41 (by decide) rfl) ?_
  refine gb_iinc (pc := 42) 2 (fun y2 => [(2, zi y2), (1, zi y1), (0, zr x0)]) dX9_depth_42 rfl (by decide) (fun _ => rfl) (fun y2 => ?_)
  refine zst_ (gj_goto 4 (pc := 45) dX9_depth_45 (by decide)) ?_
  refine zst_ (gj_sub [2, 1, 0] rfl) ?_
  intro h
  cases h
  exact hk
noncomputable def f_X9_depth_35 (x0 x2 t0 : Int) (σ : zM) : Option ((Int × Int) ⊕ zO) :=
  f_X9_depth_40 x0 x2 0 t0 σ
theorem w_X9_depth_35 {g : zG} {lv : Nat} {out : zO} (x0 x2 t0 : Int) (σ : zM) {r : ((Int × Int) ⊕ zO)} (h : f_X9_depth_35 x0 x2 t0 σ = some r) (hk : (zKL (fun s : Int × Int => Gj g MX9_depth (lv) 4 [(0, zr x0), (1, zi s.1), (2, zi s.2)] [] σ out) (fun o : zO => o = out)) r) : Gj g MX9_depth (lv) 35 [(0, zr x0), (2, zi x2)] [zi t0] σ out := by
  revert h
  unfold f_X9_depth_35
  refine zst_ (gj_iconst (pc := 35) dX9_depth_35 (by decide)) ?_
  refine zst_ (gj_goto 40 (pc := 36) dX9_depth_36 (by decide)) ?_
  exact fun h => w_X9_depth_40 x0 x2 0 t0 σ h hk
noncomputable def f_X9_depth_4_b (x0 x1 x2 : Int) (σ : zM) : Option ((Int × Int) ⊕ zO) :=
  (zgf σ 942 x0).bind fun v1 =>
  if v1 ≤ x2 then
    (f_X9_depth_48 x1 σ).map (fun r => (.inr r))
  else
    (zgf σ 943 x0).bind fun v2 =>
    (zga σ 101 v2 x2).bind fun v3 =>
    if v3 = 9 then
      f_X9_depth_35 x0 x2 x1 σ
    else
      (zgf σ 943 x0).bind fun v4 =>
      (zga σ 101 v4 x2).bind fun v5 =>
      if v5 ≠ 10 then
        f_X9_depth_40 x0 x2 1 x1 σ
      else
        f_X9_depth_35 x0 x2 x1 σ
noncomputable def f_X9_depth_4 (x0 x1 x2 : Int) (σ : zM) : Option zO :=
  zloop (fun s : Int × Int => f_X9_depth_4_b x0 s.1 s.2 σ) (x1, x2)
theorem w_X9_depth_4_b {g : zG} {lv : Nat} {out : zO} (x0 x1 x2 : Int) (σ : zM) {r : ((Int × Int) ⊕ zO)} (h : f_X9_depth_4_b x0 x1 x2 σ = some r) (hk : (zKL (fun s : Int × Int => Gj g MX9_depth (lv) 4 [(0, zr x0), (1, zi s.1), (2, zi s.2)] [] σ out) (fun o : zO => o = out)) r) : Gj g MX9_depth (lv) 4 [(0, zr x0), (1, zi x1), (2, zi x2)] [] σ out := by
  revert h
  unfold f_X9_depth_4_b
  refine zst_ (gj_iload_n 2 (pc := 4) dX9_depth_4 rfl) ?_
  refine zst_ (gj_aload_n 0 (pc := 5) dX9_depth_5 rfl) ?_
  refine gb_get (pc := 6) fl942 dX9_depth_6 q1924 (Or.inl rfl) (fun v1 => ?_)
  refine gb_if (gj_icmp_ge 48 (pc := 9) dX9_depth_9 (by decide)) ?_ ?_
  · refine zst_ (gj_sub [1] rfl) ?_
    intro h
    obtain ⟨r0, h0, rfl⟩ := zmE h
    exact w_X9_depth_48 x1 σ h0 hk
  · refine zst_ (gj_iload_n 1 (pc := 12) dX9_depth_12 rfl) ?_
    refine zst_ (gj_aload_n 0 (pc := 13) dX9_depth_13 rfl) ?_
    refine gb_get (pc := 14) fl943 dX9_depth_14 q1925 (Or.inl rfl) (fun v2 => ?_)
    refine zst_ (gj_iload_n 2 (pc := 17) dX9_depth_17 rfl) ?_
    refine gb_iald (pc := 18) dX9_depth_18 (fun v3 => ?_)
    refine zst_ (gj_bipush (pc := 19) dX9_depth_19 ⟨rfl, by decide⟩) ?_
    refine gb_if (gj_icmp_eq 35 (pc := 21) dX9_depth_21 (by decide)) ?_ ?_
    · refine zst_ (gj_sub [0, 2] rfl) ?_
      exact fun h => w_X9_depth_35 x0 x2 x1 σ h hk
    · refine zst_ (gj_aload_n 0 (pc := 24) dX9_depth_24 rfl) ?_
      refine gb_get (pc := 25) fl943 dX9_depth_25 q1925 (Or.inl rfl) (fun v4 => ?_)
      refine zst_ (gj_iload_n 2 (pc := 28) dX9_depth_28 rfl) ?_
      refine gb_iald (pc := 29) dX9_depth_29 (fun v5 => ?_)
      refine zst_ (gj_bipush (pc := 30) dX9_depth_30 ⟨rfl, by decide⟩) ?_
      refine gb_if (gj_icmp_ne 39 (pc := 32) dX9_depth_32 (by decide)) ?_ ?_
      · refine zst_ (gj_iconst (pc := 39) dX9_depth_39 (by decide)) ?_
        refine zst_ (gj_sub [0, 2] rfl) ?_
        exact fun h => w_X9_depth_40 x0 x2 1 x1 σ h hk
      · refine zst_ (gj_sub [0, 2] rfl) ?_
        exact fun h => w_X9_depth_35 x0 x2 x1 σ h hk
theorem w_X9_depth_4 {g : zG} {lv : Nat} {out : zO} (x0 x1 x2 : Int) (σ : zM) {r : zO} (h : f_X9_depth_4 x0 x1 x2 σ = some r) (hk : (fun o : zO => o = out) r) : Gj g MX9_depth (lv) 4 [(0, zr x0), (1, zi x1), (2, zi x2)] [] σ out :=
  gj_loop (P := (fun s : Int × Int => Gj g MX9_depth (lv) 4 [(0, zr x0), (1, zi s.1), (2, zi s.2)] [] σ out)) (fun s x hb hx => w_X9_depth_4_b x0 s.1 s.2 σ hb hx) h hk
noncomputable def f_X9_depth (x0 : Int) (σ : zM) : Option zO :=
  f_X9_depth_4 x0 0 0 σ
theorem c_X9_depth {g : zG} {lv : Nat} {x0 : Int} {σ : zM} {out : zO} (h : f_X9_depth x0 σ = some out) : Cj g (lv) MX9_depth [zr x0] σ out := by
  refine cj_go (ls := [(0, zr x0)]) (by decide) (Nat.le_of_ble_eq_true rfl) rfl (zgen h (fun r hk => ?_))
  unfold f_X9_depth
  refine zst_ (gj_iconst (pc := 0) dX9_depth_0 (by decide)) ?_
  refine zst_ (gj_istore_n (pc := 1) (ls' := [(1, zi 0), (0, zr x0)]) dX9_depth_1 (by decide) rfl) ?_
  refine zst_ (gj_iconst (pc := 2) dX9_depth_2 (by decide)) ?_
  refine zst_ (gj_istore_n (pc := 3) (ls' := [(2, zi 0), (1, zi 0), (0, zr x0)]) dX9_depth_3 (by decide) rfl) ?_
  refine zst_ (gj_sub [2, 1, 0] rfl) ?_
  exact fun h => w_X9_depth_4 x0 0 0 σ h hk
theorem q1947 : (Jvm.Cond.fieldLink "LassoFinderModel" (391 : Nat) "LassoFinderModel" "met" "I") ∈ lw_all := lw_g (lw_at lw_m8 167 rfl) rfl
theorem q2303 : (Jvm.Cond.code ({ cls := "LassoFinderModel", name := "push", desc := "(I)Z" } : Jvm.MethodName) prog_22_method_46_code (2 : Nat) (Option.some Jvm.ClassFile.FieldType.boolean)) ∈ lw_all := lw_g (lw_at lw_m10 43 rfl) rfl
theorem q2304 : (Jvm.Cond.methodLink "LassoFinderModel" (382 : Nat) ({ cls := "LassoFinderModel", name := "binds", desc := "(I)I" } : Jvm.MethodName)) ∈ lw_all := lw_g (lw_at lw_m10 44 rfl) rfl
theorem q2305 : (Jvm.Cond.static ({ cls := "LassoFinderModel", name := "binds", desc := "(I)I" } : Jvm.MethodName)) ∈ lw_all := lw_g (lw_at lw_m10 45 rfl) rfl
theorem q2307 : (Jvm.Cond.methodLink "LassoFinderModel" (394 : Nat) ({ cls := "LassoFinderModel", name := "depth", desc := "()I" } : Jvm.MethodName)) ∈ lw_all := lw_g (lw_at lw_m10 47 rfl) rfl
theorem q2309 : (Jvm.Cond.instanceMethod ({ cls := "LassoFinderModel", name := "depth", desc := "()I" } : Jvm.MethodName)) ∈ lw_all := lw_g (lw_at lw_m10 49 rfl) rfl
theorem fl965 : zfl 965 0 "LassoFinderModel" "met" "I" false := ⟨rfl, rfl, rfl⟩
theorem fr965 {g : zG} {v : Int} : zok g (0, v) → zokt g (zft 965) v := fun h => h
abbrev cX9_push : ByteArray := prog_22_method_46_code
def yX9_push : MethodName := ⟨RX9, "push", "(I)Z"⟩
theorem dX9_push_0 : decode cX9_push 0 = .ok (.iload_n 1, 1) := by decide +kernel
theorem dX9_push_1 : decode cX9_push 1 = .ok (.bipush 12, 2) := by decide +kernel
theorem dX9_push_3 : decode cX9_push 3 = .ok (.if_icmp .lt 17, 3) := by decide +kernel
theorem dX9_push_6 : decode cX9_push 6 = .ok (.iload_n 1, 1) := by decide +kernel
theorem dX9_push_7 : decode cX9_push 7 = .ok (.bipush 15, 2) := by decide +kernel
theorem dX9_push_9 : decode cX9_push 9 = .ok (.if_icmp .gt 11, 3) := by decide +kernel
theorem dX9_push_12 : decode cX9_push 12 = .ok (.aload_n 0, 1) := by decide +kernel
theorem dX9_push_13 : decode cX9_push 13 = .ok (.getfield 391, 3) := by decide +kernel
theorem dX9_push_16 : decode cX9_push 16 = .ok (.iconst 3, 1) := by decide +kernel
theorem dX9_push_17 : decode cX9_push 17 = .ok (.if_icmp .eq 28, 3) := by decide +kernel
theorem dX9_push_20 : decode cX9_push 20 = .ok (.iload_n 1, 1) := by decide +kernel
theorem dX9_push_21 : decode cX9_push 21 = .ok (.invokestatic 382, 3) := by decide +kernel
theorem dX9_push_24 : decode cX9_push 24 = .ok (.iconst 2, 1) := by decide +kernel
theorem dX9_push_25 : decode cX9_push 25 = .ok (.if_icmp .eq 25, 3) := by decide +kernel
theorem dX9_push_28 : decode cX9_push 28 = .ok (.iload_n 1, 1) := by decide +kernel
theorem dX9_push_29 : decode cX9_push 29 = .ok (.invokestatic 382, 3) := by decide +kernel
theorem dX9_push_32 : decode cX9_push 32 = .ok (.iconst 3, 1) := by decide +kernel
theorem dX9_push_33 : decode cX9_push 33 = .ok (.if_icmp .eq 17, 3) := by decide +kernel
theorem dX9_push_36 : decode cX9_push 36 = .ok (.aload_n 0, 1) := by decide +kernel
theorem dX9_push_37 : decode cX9_push 37 = .ok (.invokevirtual 394, 3) := by decide +kernel
theorem dX9_push_40 : decode cX9_push 40 = .ok (.bipush 8, 2) := by decide +kernel
theorem dX9_push_42 : decode cX9_push 42 = .ok (.if_icmp .ne 8, 3) := by decide +kernel
theorem dX9_push_45 : decode cX9_push 45 = .ok (.aload_n 0, 1) := by decide +kernel
theorem dX9_push_46 : decode cX9_push 46 = .ok (.invokevirtual 213, 3) := by decide +kernel
theorem dX9_push_49 : decode cX9_push 49 = .ok (.ireturn, 1) := by decide +kernel
theorem dX9_push_50 : decode cX9_push 50 = .ok (.aload_n 0, 1) := by decide +kernel
theorem dX9_push_51 : decode cX9_push 51 = .ok (.dup, 1) := by decide +kernel
theorem dX9_push_52 : decode cX9_push 52 = .ok (.getfield 391, 3) := by decide +kernel
theorem dX9_push_55 : decode cX9_push 55 = .ok (.iload_n 1, 1) := by decide +kernel
theorem dX9_push_56 : decode cX9_push 56 = .ok (.bipush 12, 2) := by decide +kernel
theorem dX9_push_58 : decode cX9_push 58 = .ok (.if_icmp .lt 13, 3) := by decide +kernel
theorem dX9_push_61 : decode cX9_push 61 = .ok (.iload_n 1, 1) := by decide +kernel
theorem dX9_push_62 : decode cX9_push 62 = .ok (.bipush 15, 2) := by decide +kernel
theorem dX9_push_64 : decode cX9_push 64 = .ok (.if_icmp .gt 7, 3) := by decide +kernel
theorem dX9_push_67 : decode cX9_push 67 = .ok (.iconst 1, 1) := by decide +kernel
theorem dX9_push_68 : decode cX9_push 68 = .ok (.goto 4, 3) := by decide +kernel
theorem dX9_push_71 : decode cX9_push 71 = .ok (.iconst 0, 1) := by decide +kernel
theorem dX9_push_72 : decode cX9_push 72 = .ok (.iadd, 1) := by decide +kernel
theorem dX9_push_73 : decode cX9_push 73 = .ok (.putfield 391, 3) := by decide +kernel
theorem dX9_push_76 : decode cX9_push 76 = .ok (.aload_n 0, 1) := by decide +kernel
theorem dX9_push_77 : decode cX9_push 77 = .ok (.getfield 103, 3) := by decide +kernel
theorem dX9_push_80 : decode cX9_push 80 = .ok (.aload_n 0, 1) := by decide +kernel
theorem dX9_push_81 : decode cX9_push 81 = .ok (.getfield 220, 3) := by decide +kernel
theorem dX9_push_84 : decode cX9_push 84 = .ok (.iload_n 1, 1) := by decide +kernel
theorem dX9_push_85 : decode cX9_push 85 = .ok (.iastore, 1) := by decide +kernel
theorem dX9_push_86 : decode cX9_push 86 = .ok (.aload_n 0, 1) := by decide +kernel
theorem dX9_push_87 : decode cX9_push 87 = .ok (.dup, 1) := by decide +kernel
theorem dX9_push_88 : decode cX9_push 88 = .ok (.getfield 220, 3) := by decide +kernel
theorem dX9_push_91 : decode cX9_push 91 = .ok (.iconst 1, 1) := by decide +kernel
theorem dX9_push_92 : decode cX9_push 92 = .ok (.iadd, 1) := by decide +kernel
theorem dX9_push_93 : decode cX9_push 93 = .ok (.putfield 220, 3) := by decide +kernel
theorem dX9_push_96 : decode cX9_push 96 = .ok (.aload_n 0, 1) := by decide +kernel
theorem dX9_push_97 : decode cX9_push 97 = .ok (.dup, 1) := by decide +kernel
theorem dX9_push_98 : decode cX9_push 98 = .ok (.getfield 203, 3) := by decide +kernel
theorem dX9_push_101 : decode cX9_push 101 = .ok (.iconst 1, 1) := by decide +kernel
theorem dX9_push_102 : decode cX9_push 102 = .ok (.iadd, 1) := by decide +kernel
theorem dX9_push_103 : decode cX9_push 103 = .ok (.putfield 203, 3) := by decide +kernel
theorem dX9_push_106 : decode cX9_push 106 = .ok (.iconst 1, 1) := by decide +kernel
theorem dX9_push_107 : decode cX9_push 107 = .ok (.ireturn, 1) := by decide +kernel
abbrev MX9_push : zT := (yX9_push, cX9_push, 2, (Option.some Jvm.ClassFile.FieldType.boolean), [])
theorem plX9_push : zplain MX9_push 1 ∧ (zcodeW MX9_push ∈ lw_all ∧ Cond.initialized MX9_push.1.cls ∈ lw_all) := ⟨⟨by decide +kernel, by decide +kernel⟩, q2303, q127⟩
noncomputable def f_X9_push_72 (x0 x1 t0 t1 t2 : Int) (σ : zM) : Option zO :=
  (zpf σ 965 t2 (zadd t1 t0)).bind fun σ1 =>
  (zgf σ1 943 x0).bind fun v2 =>
  (zgf σ1 942 x0).bind fun v3 =>
  (zpa σ1 101 v2 v3 x1).bind fun σ4 =>
  (zgf σ4 942 x0).bind fun v5 =>
  (zpf σ4 942 x0 (zadd v5 1)).bind fun σ6 =>
  (zgf σ6 903 x0).bind fun v7 =>
  (zpf σ6 903 x0 (zadd v7 1)).bind fun σ8 =>
  zgd (z01 1) <|
  some (0, zi 1, σ8)
theorem w_X9_push_72 {g : zG} {lv : Nat} {out : zO} (x0 x1 t0 t1 t2 : Int) (σ : zM) {r : zO} (h : f_X9_push_72 x0 x1 t0 t1 t2 σ = some r) (hk : (fun o : zO => o = out) r) : Gj g MX9_push (lv + 1) 72 [(0, zr x0), (1, zi x1)] [zi t0, zi t1, zr t2] σ out := by
  revert h
  unfold f_X9_push_72
  refine zst_ (gj_iadd (pc := 72) dX9_push_72) ?_
  refine gb_put (pc := 73) fl965 fr965 dX9_push_73 q1947 (Or.inl rfl) (fun σ1 => ?_)
  refine zst_ (gj_aload_n 0 (pc := 76) dX9_push_76 rfl) ?_
  refine gb_get (pc := 77) fl943 dX9_push_77 q1925 (Or.inl rfl) (fun v2 => ?_)
  refine zst_ (gj_aload_n 0 (pc := 80) dX9_push_80 rfl) ?_
  refine gb_get (pc := 81) fl942 dX9_push_81 q1924 (Or.inl rfl) (fun v3 => ?_)
  refine zst_ (gj_iload_n 1 (pc := 84) dX9_push_84 rfl) ?_
  refine gb_iast (pc := 85) dX9_push_85 (fun σ4 => ?_)
  refine zst_ (gj_aload_n 0 (pc := 86) dX9_push_86 rfl) ?_
  refine zst_ (gj_dup (pc := 87) dX9_push_87 rfl) ?_
  refine gb_get (pc := 88) fl942 dX9_push_88 q1924 (Or.inl rfl) (fun v5 => ?_)
  refine zst_ (gj_iconst (pc := 91) dX9_push_91 (by decide)) ?_
  refine zst_ (gj_iadd (pc := 92) dX9_push_92) ?_
  refine gb_put (pc := 93) fl942 fr942 dX9_push_93 q1924 (Or.inl rfl) (fun σ6 => ?_)
  refine zst_ (gj_aload_n 0 (pc := 96) dX9_push_96 rfl) ?_
  refine zst_ (gj_dup (pc := 97) dX9_push_97 rfl) ?_
  refine gb_get (pc := 98) fl903 dX9_push_98 q1885 (Or.inl rfl) (fun v7 => ?_)
  refine zst_ (gj_iconst (pc := 101) dX9_push_101 (by decide)) ?_
  refine zst_ (gj_iadd (pc := 102) dX9_push_102) ?_
  refine gb_put (pc := 103) fl903 fr903 dX9_push_103 q1885 (Or.inl rfl) (fun σ8 => ?_)
  refine zst_ (gj_iconst (pc := 106) dX9_push_106 (by decide)) ?_
  refine gb_gd (fun hb => ?_)
  intro h
  cases h
  have hk : (0, zi 1, σ8) = out := hk
  subst hk
  exact gj_ret (pc := 107) (t := .boolean) dX9_push_107 rfl ⟨rfl, rfl⟩ (fun _ => z01E hb)
noncomputable def f_X9_push_71 (x0 x1 t0 t1 : Int) (σ : zM) : Option zO :=
  f_X9_push_72 x0 x1 0 t0 t1 σ
theorem w_X9_push_71 {g : zG} {lv : Nat} {out : zO} (x0 x1 t0 t1 : Int) (σ : zM) {r : zO} (h : f_X9_push_71 x0 x1 t0 t1 σ = some r) (hk : (fun o : zO => o = out) r) : Gj g MX9_push (lv + 1) 71 [(0, zr x0), (1, zi x1)] [zi t0, zr t1] σ out := by
  revert h
  unfold f_X9_push_71
  refine zst_ (gj_iconst (pc := 71) dX9_push_71 (by decide)) ?_
  exact fun h => w_X9_push_72 x0 x1 0 t0 t1 σ h hk
noncomputable def f_X9_push_50 (x0 x1 : Int) (σ : zM) : Option zO :=
  (zgf σ 965 x0).bind fun v1 =>
  if x1 < 12 then
    f_X9_push_71 x0 x1 v1 x0 σ
  else
    if 15 < x1 then
      f_X9_push_71 x0 x1 v1 x0 σ
    else
      f_X9_push_72 x0 x1 1 v1 x0 σ
theorem w_X9_push_50 {g : zG} {lv : Nat} {out : zO} (x0 x1 : Int) (σ : zM) {r : zO} (h : f_X9_push_50 x0 x1 σ = some r) (hk : (fun o : zO => o = out) r) : Gj g MX9_push (lv + 1) 50 [(0, zr x0), (1, zi x1)] [] σ out := by
  revert h
  unfold f_X9_push_50
  refine zst_ (gj_aload_n 0 (pc := 50) dX9_push_50 rfl) ?_
  refine zst_ (gj_dup (pc := 51) dX9_push_51 rfl) ?_
  refine gb_get (pc := 52) fl965 dX9_push_52 q1947 (Or.inl rfl) (fun v1 => ?_)
  refine zst_ (gj_iload_n 1 (pc := 55) dX9_push_55 rfl) ?_
  refine zst_ (gj_bipush (pc := 56) dX9_push_56 ⟨rfl, by decide⟩) ?_
  refine gb_if (gj_icmp_lt 71 (pc := 58) dX9_push_58 (by decide)) ?_ ?_
  · exact fun h => w_X9_push_71 x0 x1 v1 x0 σ h hk
  · refine zst_ (gj_iload_n 1 (pc := 61) dX9_push_61 rfl) ?_
    refine zst_ (gj_bipush (pc := 62) dX9_push_62 ⟨rfl, by decide⟩) ?_
    refine gb_if (gj_icmp_gt 71 (pc := 64) dX9_push_64 (by decide)) ?_ ?_
    · exact fun h => w_X9_push_71 x0 x1 v1 x0 σ h hk
    · refine zst_ (gj_iconst (pc := 67) dX9_push_67 (by decide)) ?_
      refine zst_ (gj_goto 72 (pc := 68) dX9_push_68 (by decide)) ?_
      exact fun h => w_X9_push_72 x0 x1 1 v1 x0 σ h hk
noncomputable def f_X9_push_45 (x0 : Int) (σ : zM) : Option zO :=
  zgd (zis σ 10 x0) <|
  zci (f_X9_fail x0 σ) fun v1 σ2 =>
  zgd (z01 v1) <|
  some (0, zi v1, σ2)
theorem w_X9_push_45 {g : zG} {lv : Nat} {out : zO} (x0 : Int) (σ : zM) {r : zO} (h : f_X9_push_45 x0 σ = some r) (hk : (fun o : zO => o = out) r) : Gj g MX9_push (lv + 1) 45 [(0, zr x0)] [] σ out := by
  revert h
  unfold f_X9_push_45
  refine zst_ (gj_aload_n 0 (pc := 45) dX9_push_45 rfl) ?_
  refine gb_gd (fun hb => ?_)
  refine gb_callI (pc := 46) (as := [zr x0]) (rest := []) (zCl.of (zLk_V (M := MX9_push) (ci := 9) (r := (RX9, TX9, 84)) plX9_fail.1 rfl rfl (zisE hb).1 (zisE hb).2 dX9_push_46 q2166 q2168 qs49 q2169) plX9_fail (Nat.le_of_ble_eq_true rfl) (fun h => c_X9_fail h)) (fun v1 σ2 => ?_)
  refine gb_gd (fun hb => ?_)
  intro h
  cases h
  have hk : (0, zi v1, σ2) = out := hk
  subst hk
  exact gj_ret (pc := 49) (t := .boolean) dX9_push_49 rfl ⟨rfl, rfl⟩ (fun _ => z01E hb)
noncomputable def f_X9_push_20 (x0 x1 : Int) (σ : zM) : Option zO :=
  zci (f_X9_binds x1 σ) fun v1 σ2 =>
  if v1 = 2 then
    f_X9_push_50 x0 x1 σ2
  else
    zci (f_X9_binds x1 σ2) fun v3 σ4 =>
    if v3 = 3 then
      f_X9_push_50 x0 x1 σ4
    else
      zgd (zis σ4 10 x0) <|
      zci (f_X9_depth x0 σ4) fun v5 σ6 =>
      if v5 ≠ 8 then
        f_X9_push_50 x0 x1 σ6
      else
        f_X9_push_45 x0 σ6
theorem w_X9_push_20 {g : zG} {lv : Nat} {out : zO} (x0 x1 : Int) (σ : zM) {r : zO} (h : f_X9_push_20 x0 x1 σ = some r) (hk : (fun o : zO => o = out) r) : Gj g MX9_push (lv + 1) 20 [(0, zr x0), (1, zi x1)] [] σ out := by
  revert h
  unfold f_X9_push_20
  refine zst_ (gj_iload_n 1 (pc := 20) dX9_push_20 rfl) ?_
  refine gb_callI (pc := 21) (as := [zi x1]) (rest := []) (zCl.of (zLk_S (M := MX9_push) plX9_binds.1 rfl dX9_push_21 q2304 q2305 q127 q2306) plX9_binds (Nat.le_of_ble_eq_true rfl) (fun h => c_X9_binds h)) (fun v1 σ2 => ?_)
  refine zst_ (gj_iconst (pc := 24) dX9_push_24 (by decide)) ?_
  refine gb_if (gj_icmp_eq 50 (pc := 25) dX9_push_25 (by decide)) ?_ ?_
  · exact fun h => w_X9_push_50 x0 x1 σ2 h hk
  · refine zst_ (gj_iload_n 1 (pc := 28) dX9_push_28 rfl) ?_
    refine gb_callI (pc := 29) (as := [zi x1]) (rest := []) (zCl.of (zLk_S (M := MX9_push) plX9_binds.1 rfl dX9_push_29 q2304 q2305 q127 q2306) plX9_binds (Nat.le_of_ble_eq_true rfl) (fun h => c_X9_binds h)) (fun v3 σ4 => ?_)
    refine zst_ (gj_iconst (pc := 32) dX9_push_32 (by decide)) ?_
    refine gb_if (gj_icmp_eq 50 (pc := 33) dX9_push_33 (by decide)) ?_ ?_
    · exact fun h => w_X9_push_50 x0 x1 σ4 h hk
    · refine zst_ (gj_aload_n 0 (pc := 36) dX9_push_36 rfl) ?_
      refine gb_gd (fun hb => ?_)
      refine gb_callI (pc := 37) (as := [zr x0]) (rest := []) (zCl.of (zLk_V (M := MX9_push) (ci := 9) (r := (RX9, TX9, 84)) plX9_depth.1 rfl rfl (zisE hb).1 (zisE hb).2 dX9_push_37 q2307 q2309 qs80 q2310) plX9_depth (Nat.le_of_ble_eq_true rfl) (fun h => c_X9_depth h)) (fun v5 σ6 => ?_)
      refine zst_ (gj_bipush (pc := 40) dX9_push_40 ⟨rfl, by decide⟩) ?_
      refine gb_if (gj_icmp_ne 50 (pc := 42) dX9_push_42 (by decide)) ?_ ?_
      · exact fun h => w_X9_push_50 x0 x1 σ6 h hk
      · refine zst_ (gj_sub [0] rfl) ?_
        exact fun h => w_X9_push_45 x0 σ6 h hk
noncomputable def f_X9_push (x0 x1 : Int) (σ : zM) : Option zO :=
  if x1 < 12 then
    f_X9_push_20 x0 x1 σ
  else
    if 15 < x1 then
      f_X9_push_20 x0 x1 σ
    else
      (zgf σ 965 x0).bind fun v1 =>
      if v1 = 3 then
        f_X9_push_45 x0 σ
      else
        f_X9_push_20 x0 x1 σ
theorem c_X9_push {g : zG} {lv : Nat} {x0 x1 : Int} {σ : zM} {out : zO} (h : f_X9_push x0 x1 σ = some out) : Cj g (lv + 1) MX9_push [zr x0, zi x1] σ out := by
  refine cj_go (ls := [(0, zr x0), (1, zi x1)]) (by decide) (Nat.le_of_ble_eq_true rfl) rfl (zgen h (fun r hk => ?_))
  unfold f_X9_push
  refine zst_ (gj_iload_n 1 (pc := 0) dX9_push_0 rfl) ?_
  refine zst_ (gj_bipush (pc := 1) dX9_push_1 ⟨rfl, by decide⟩) ?_
  refine gb_if (gj_icmp_lt 20 (pc := 3) dX9_push_3 (by decide)) ?_ ?_
  · exact fun h => w_X9_push_20 x0 x1 σ h hk
  · refine zst_ (gj_iload_n 1 (pc := 6) dX9_push_6 rfl) ?_
    refine zst_ (gj_bipush (pc := 7) dX9_push_7 ⟨rfl, by decide⟩) ?_
    refine gb_if (gj_icmp_gt 20 (pc := 9) dX9_push_9 (by decide)) ?_ ?_
    · exact fun h => w_X9_push_20 x0 x1 σ h hk
    · refine zst_ (gj_aload_n 0 (pc := 12) dX9_push_12 rfl) ?_
      refine gb_get (pc := 13) fl965 dX9_push_13 q1947 (Or.inl rfl) (fun v1 => ?_)
      refine zst_ (gj_iconst (pc := 16) dX9_push_16 (by decide)) ?_
      refine gb_if (gj_icmp_eq 45 (pc := 17) dX9_push_17 (by decide)) ?_ ?_
      · refine zst_ (gj_sub [0] rfl) ?_
        exact fun h => w_X9_push_45 x0 σ h hk
      · exact fun h => w_X9_push_20 x0 x1 σ h hk
theorem q1944 : (Jvm.Cond.fieldLink "LassoFinderModel" (379 : Nat) "LassoFinderModel" "size" "I") ∈ lw_all := lw_g (lw_at lw_m8 164 rfl) rfl
theorem q1946 : (Jvm.Cond.fieldLink "LassoFinderModel" (376 : Nat) "LassoFinderModel" "turns" "I") ∈ lw_all := lw_g (lw_at lw_m8 166 rfl) rfl
theorem q2318 : (Jvm.Cond.code ({ cls := "LassoFinderModel", name := "put", desc := "(I)V" } : Jvm.MethodName) prog_22_method_43_code (2 : Nat) (Option.none : Option Jvm.ClassFile.FieldType)) ∈ lw_all := lw_g (lw_at lw_m10 58 rfl) rfl
theorem fl962 : zfl 962 0 "LassoFinderModel" "size" "I" false := ⟨rfl, rfl, rfl⟩
theorem fr962 {g : zG} {v : Int} : zok g (0, v) → zokt g (zft 962) v := fun h => h
theorem fl964 : zfl 964 0 "LassoFinderModel" "turns" "I" false := ⟨rfl, rfl, rfl⟩
theorem fr964 {g : zG} {v : Int} : zok g (0, v) → zokt g (zft 964) v := fun h => h
abbrev cX9_put : ByteArray := prog_22_method_43_code
def yX9_put : MethodName := ⟨RX9, "put", "(I)V"⟩
theorem dX9_put_0 : decode cX9_put 0 = .ok (.iload_n 1, 1) := by decide +kernel
theorem dX9_put_1 : decode cX9_put 1 = .ok (.bipush 12, 2) := by decide +kernel
theorem dX9_put_3 : decode cX9_put 3 = .ok (.if_icmp .lt 32, 3) := by decide +kernel
theorem dX9_put_6 : decode cX9_put 6 = .ok (.iload_n 1, 1) := by decide +kernel
theorem dX9_put_7 : decode cX9_put 7 = .ok (.bipush 15, 2) := by decide +kernel
theorem dX9_put_9 : decode cX9_put 9 = .ok (.if_icmp .gt 26, 3) := by decide +kernel
theorem dX9_put_12 : decode cX9_put 12 = .ok (.aload_n 0, 1) := by decide +kernel
theorem dX9_put_13 : decode cX9_put 13 = .ok (.getfield 151, 3) := by decide +kernel
theorem dX9_put_16 : decode cX9_put 16 = .ok (.aload_n 0, 1) := by decide +kernel
theorem dX9_put_17 : decode cX9_put 17 = .ok (.getfield 376, 3) := by decide +kernel
theorem dX9_put_20 : decode cX9_put 20 = .ok (.aload_n 0, 1) := by decide +kernel
theorem dX9_put_21 : decode cX9_put 21 = .ok (.getfield 379, 3) := by decide +kernel
theorem dX9_put_24 : decode cX9_put 24 = .ok (.iastore, 1) := by decide +kernel
theorem dX9_put_25 : decode cX9_put 25 = .ok (.aload_n 0, 1) := by decide +kernel
theorem dX9_put_26 : decode cX9_put 26 = .ok (.dup, 1) := by decide +kernel
theorem dX9_put_27 : decode cX9_put 27 = .ok (.getfield 376, 3) := by decide +kernel
theorem dX9_put_30 : decode cX9_put 30 = .ok (.iconst 1, 1) := by decide +kernel
theorem dX9_put_31 : decode cX9_put 31 = .ok (.iadd, 1) := by decide +kernel
theorem dX9_put_32 : decode cX9_put 32 = .ok (.putfield 376, 3) := by decide +kernel
theorem dX9_put_35 : decode cX9_put 35 = .ok (.aload_n 0, 1) := by decide +kernel
theorem dX9_put_36 : decode cX9_put 36 = .ok (.getfield 145, 3) := by decide +kernel
theorem dX9_put_39 : decode cX9_put 39 = .ok (.aload_n 0, 1) := by decide +kernel
theorem dX9_put_40 : decode cX9_put 40 = .ok (.getfield 379, 3) := by decide +kernel
theorem dX9_put_43 : decode cX9_put 43 = .ok (.iload_n 1, 1) := by decide +kernel
theorem dX9_put_44 : decode cX9_put 44 = .ok (.iastore, 1) := by decide +kernel
theorem dX9_put_45 : decode cX9_put 45 = .ok (.aload_n 0, 1) := by decide +kernel
theorem dX9_put_46 : decode cX9_put 46 = .ok (.dup, 1) := by decide +kernel
theorem dX9_put_47 : decode cX9_put 47 = .ok (.getfield 379, 3) := by decide +kernel
theorem dX9_put_50 : decode cX9_put 50 = .ok (.iconst 1, 1) := by decide +kernel
theorem dX9_put_51 : decode cX9_put 51 = .ok (.iadd, 1) := by decide +kernel
theorem dX9_put_52 : decode cX9_put 52 = .ok (.putfield 379, 3) := by decide +kernel
theorem dX9_put_55 : decode cX9_put 55 = .ok (.return_, 1) := by decide +kernel
abbrev MX9_put : zT := (yX9_put, cX9_put, 2, (Option.none : Option Jvm.ClassFile.FieldType), [])
theorem plX9_put : zplain MX9_put 1 ∧ (zcodeW MX9_put ∈ lw_all ∧ Cond.initialized MX9_put.1.cls ∈ lw_all) := ⟨⟨by decide +kernel, by decide +kernel⟩, q2318, q127⟩
noncomputable def f_X9_put_35 (x0 x1 : Int) (σ : zM) : Option zO :=
  (zgf σ 963 x0).bind fun v1 =>
  (zgf σ 962 x0).bind fun v2 =>
  (zpa σ 101 v1 v2 x1).bind fun σ3 =>
  (zgf σ3 962 x0).bind fun v4 =>
  (zpf σ3 962 x0 (zadd v4 1)).bind fun σ5 =>
  some (0, ((3, 0) : zV), σ5)
theorem w_X9_put_35 {g : zG} {lv : Nat} {out : zO} (x0 x1 : Int) (σ : zM) {r : zO} (h : f_X9_put_35 x0 x1 σ = some r) (hk : (fun o : zO => o = out) r) : Gj g MX9_put (lv) 35 [(0, zr x0), (1, zi x1)] [] σ out := by
  revert h
  unfold f_X9_put_35
  refine zst_ (gj_aload_n 0 (pc := 35) dX9_put_35 rfl) ?_
  refine gb_get (pc := 36) fl963 dX9_put_36 q1945 (Or.inl rfl) (fun v1 => ?_)
  refine zst_ (gj_aload_n 0 (pc := 39) dX9_put_39 rfl) ?_
  refine gb_get (pc := 40) fl962 dX9_put_40 q1944 (Or.inl rfl) (fun v2 => ?_)
  refine zst_ (gj_iload_n 1 (pc := 43) dX9_put_43 rfl) ?_
  refine gb_iast (pc := 44) dX9_put_44 (fun σ3 => ?_)
  refine zst_ (gj_aload_n 0 (pc := 45) dX9_put_45 rfl) ?_
  refine zst_ (gj_dup (pc := 46) dX9_put_46 rfl) ?_
  refine gb_get (pc := 47) fl962 dX9_put_47 q1944 (Or.inl rfl) (fun v4 => ?_)
  refine zst_ (gj_iconst (pc := 50) dX9_put_50 (by decide)) ?_
  refine zst_ (gj_iadd (pc := 51) dX9_put_51) ?_
  refine gb_put (pc := 52) fl962 fr962 dX9_put_52 q1944 (Or.inl rfl) (fun σ5 => ?_)
  intro h
  cases h
  have hk : (0, ((3, 0) : zV), σ5) = out := hk
  subst hk
  exact gj_vret (pc := 55) dX9_put_55 rfl
noncomputable def f_X9_put (x0 x1 : Int) (σ : zM) : Option zO :=
  if x1 < 12 then
    f_X9_put_35 x0 x1 σ
  else
    if 15 < x1 then
      f_X9_put_35 x0 x1 σ
    else
      (zgf σ 968 x0).bind fun v1 =>
      (zgf σ 964 x0).bind fun v2 =>
      (zgf σ 962 x0).bind fun v3 =>
      (zpa σ 101 v1 v2 v3).bind fun σ4 =>
      (zgf σ4 964 x0).bind fun v5 =>
      (zpf σ4 964 x0 (zadd v5 1)).bind fun σ6 =>
      f_X9_put_35 x0 x1 σ6
theorem c_X9_put {g : zG} {lv : Nat} {x0 x1 : Int} {σ : zM} {out : zO} (h : f_X9_put x0 x1 σ = some out) : Cj g (lv) MX9_put [zr x0, zi x1] σ out := by
  refine cj_go (ls := [(0, zr x0), (1, zi x1)]) (by decide) (Nat.le_of_ble_eq_true rfl) rfl (zgen h (fun r hk => ?_))
  unfold f_X9_put
  refine zst_ (gj_iload_n 1 (pc := 0) dX9_put_0 rfl) ?_
  refine zst_ (gj_bipush (pc := 1) dX9_put_1 ⟨rfl, by decide⟩) ?_
  refine gb_if (gj_icmp_lt 35 (pc := 3) dX9_put_3 (by decide)) ?_ ?_
  · exact fun h => w_X9_put_35 x0 x1 σ h hk
  · refine zst_ (gj_iload_n 1 (pc := 6) dX9_put_6 rfl) ?_
    refine zst_ (gj_bipush (pc := 7) dX9_put_7 ⟨rfl, by decide⟩) ?_
    refine gb_if (gj_icmp_gt 35 (pc := 9) dX9_put_9 (by decide)) ?_ ?_
    · exact fun h => w_X9_put_35 x0 x1 σ h hk
    · refine zst_ (gj_aload_n 0 (pc := 12) dX9_put_12 rfl) ?_
      refine gb_get (pc := 13) fl968 dX9_put_13 q1950 (Or.inl rfl) (fun v1 => ?_)
      refine zst_ (gj_aload_n 0 (pc := 16) dX9_put_16 rfl) ?_
      refine gb_get (pc := 17) fl964 dX9_put_17 q1946 (Or.inl rfl) (fun v2 => ?_)
      refine zst_ (gj_aload_n 0 (pc := 20) dX9_put_20 rfl) ?_
      refine gb_get (pc := 21) fl962 dX9_put_21 q1944 (Or.inl rfl) (fun v3 => ?_)
      refine gb_iast (pc := 24) dX9_put_24 (fun σ4 => ?_)
      refine zst_ (gj_aload_n 0 (pc := 25) dX9_put_25 rfl) ?_
      refine zst_ (gj_dup (pc := 26) dX9_put_26 rfl) ?_
      refine gb_get (pc := 27) fl964 dX9_put_27 q1946 (Or.inl rfl) (fun v5 => ?_)
      refine zst_ (gj_iconst (pc := 30) dX9_put_30 (by decide)) ?_
      refine zst_ (gj_iadd (pc := 31) dX9_put_31) ?_
      refine gb_put (pc := 32) fl964 fr964 dX9_put_32 q1946 (Or.inl rfl) (fun σ6 => ?_)
      exact fun h => w_X9_put_35 x0 x1 σ6 h hk
theorem q1951 : (Jvm.Cond.fieldLink "LassoFinderModel" (388 : Nat) "LassoFinderModel" "atoms" "I") ∈ lw_all := lw_g (lw_at lw_m8 171 rfl) rfl
theorem q2314 : (Jvm.Cond.code ({ cls := "LassoFinderModel", name := "atom", desc := "()Z" } : Jvm.MethodName) prog_22_method_45_code (4 : Nat) (Option.some Jvm.ClassFile.FieldType.boolean)) ∈ lw_all := lw_g (lw_at lw_m10 54 rfl) rfl
theorem q2315 : (Jvm.Cond.methodLink "LassoFinderModel" (385 : Nat) ({ cls := "LassoFinderModel", name := "put", desc := "(I)V" } : Jvm.MethodName)) ∈ lw_all := lw_g (lw_at lw_m10 55 rfl) rfl
theorem q2317 : (Jvm.Cond.instanceMethod ({ cls := "LassoFinderModel", name := "put", desc := "(I)V" } : Jvm.MethodName)) ∈ lw_all := lw_g (lw_at lw_m10 57 rfl) rfl
theorem fl969 : zfl 969 0 "LassoFinderModel" "atoms" "I" false := ⟨rfl, rfl, rfl⟩
theorem fr969 {g : zG} {v : Int} : zok g (0, v) → zokt g (zft 969) v := fun h => h
abbrev cX9_atom : ByteArray := prog_22_method_45_code
def yX9_atom : MethodName := ⟨RX9, "atom", "()Z"⟩
theorem dX9_atom_0 : decode cX9_atom 0 = .ok (.aload_n 0, 1) := by decide +kernel
theorem dX9_atom_1 : decode cX9_atom 1 = .ok (.getfield 388, 3) := by decide +kernel
theorem dX9_atom_4 : decode cX9_atom 4 = .ok (.bipush 8, 2) := by decide +kernel
theorem dX9_atom_6 : decode cX9_atom 6 = .ok (.if_icmp .ne 8, 3) := by decide +kernel
theorem dX9_atom_9 : decode cX9_atom 9 = .ok (.aload_n 0, 1) := by decide +kernel
theorem dX9_atom_10 : decode cX9_atom 10 = .ok (.invokevirtual 213, 3) := by decide +kernel
theorem dX9_atom_13 : decode cX9_atom 13 = .ok (.ireturn, 1) := by decide +kernel
theorem dX9_atom_14 : decode cX9_atom 14 = .ok (.aload_n 0, 1) := by decide +kernel
theorem dX9_atom_15 : decode cX9_atom 15 = .ok (.invokevirtual 209, 3) := by decide +kernel
theorem dX9_atom_18 : decode cX9_atom 18 = .ok (.bipush 123, 2) := by decide +kernel
theorem dX9_atom_20 : decode cX9_atom 20 = .ok (.if_icmp .ne 133, 3) := by decide +kernel
theorem dX9_atom_23 : decode cX9_atom 23 = .ok (.aload_n 0, 1) := by decide +kernel
theorem dX9_atom_24 : decode cX9_atom 24 = .ok (.dup, 1) := by decide +kernel
theorem dX9_atom_25 : decode cX9_atom 25 = .ok (.getfield 203, 3) := by decide +kernel
theorem dX9_atom_28 : decode cX9_atom 28 = .ok (.iconst 1, 1) := by decide +kernel
theorem dX9_atom_29 : decode cX9_atom 29 = .ok (.iadd, 1) := by decide +kernel
theorem dX9_atom_30 : decode cX9_atom 30 = .ok (.putfield 203, 3) := by decide +kernel
theorem dX9_atom_33 : decode cX9_atom 33 = .ok (.aload_n 0, 1) := by decide +kernel
theorem dX9_atom_34 : decode cX9_atom 34 = .ok (.getfield 220, 3) := by decide +kernel
theorem dX9_atom_37 : decode cX9_atom 37 = .ok (.istore_n 1, 1) := by decide +kernel
theorem dX9_atom_38 : decode cX9_atom 38 = .ok (.aload_n 0, 1) := by decide +kernel
theorem dX9_atom_39 : decode cX9_atom 39 = .ok (.getfield 154, 3) := by decide +kernel
theorem dX9_atom_42 : decode cX9_atom 42 = .ok (.aload_n 0, 1) := by decide +kernel
theorem dX9_atom_43 : decode cX9_atom 43 = .ok (.getfield 388, 3) := by decide +kernel
theorem dX9_atom_46 : decode cX9_atom 46 = .ok (.iconst (-1), 1) := by decide +kernel
theorem dX9_atom_47 : decode cX9_atom 47 = .ok (.iastore, 1) := by decide +kernel
theorem dX9_atom_48 : decode cX9_atom 48 = .ok (.aload_n 0, 1) := by decide +kernel
theorem dX9_atom_49 : decode cX9_atom 49 = .ok (.getfield 160, 3) := by decide +kernel
theorem dX9_atom_52 : decode cX9_atom 52 = .ok (.aload_n 0, 1) := by decide +kernel
theorem dX9_atom_53 : decode cX9_atom 53 = .ok (.getfield 388, 3) := by decide +kernel
theorem dX9_atom_56 : decode cX9_atom 56 = .ok (.aload_n 0, 1) := by decide +kernel
theorem dX9_atom_57 : decode cX9_atom 57 = .ok (.getfield 217, 3) := by decide +kernel
theorem dX9_atom_60 : decode cX9_atom 60 = .ok (.iastore, 1) := by decide +kernel
theorem dX9_atom_61 : decode cX9_atom 61 = .ok (.iconst 0, 1) := by decide +kernel
theorem dX9_atom_62 : decode cX9_atom 62 = .ok (.istore_n 2, 1) := by decide +kernel
theorem dX9_atom_63 : decode cX9_atom 63 = .ok (.iload_n 2, 1) := by decide +kernel
theorem dX9_atom_64 : decode cX9_atom 64 = .ok (.iload_n 1, 1) := by decide +kernel
theorem dX9_atom_65 : decode cX9_atom 65 = .ok (.if_icmp .ge 21, 3) := by decide +kernel
theorem dX9_atom_68 : decode cX9_atom 68 = .ok (.aload_n 0, 1) := by decide +kernel
theorem dX9_atom_69 : decode cX9_atom 69 = .ok (.getfield 148, 3) := by decide +kernel
theorem dX9_atom_72 : decode cX9_atom 72 = .ok (.iload_n 2, 1) := by decide +kernel
theorem dX9_atom_73 : decode cX9_atom 73 = .ok (.aload_n 0, 1) := by decide +kernel
theorem dX9_atom_74 : decode cX9_atom 74 = .ok (.getfield 103, 3) := by decide +kernel
theorem dX9_atom_77 : decode cX9_atom 77 = .ok (.iload_n 2, 1) := by decide +kernel
theorem dX9_atom_78 : decode cX9_atom 78 = .ok (.iaload, 1) := by decide +kernel
theorem dX9_atom_79 : decode cX9_atom 79 = .ok (.iastore, 1) := by decide +kernel
theorem dX9_atom_80 : decode cX9_atom 80 = .ok (.iinc 2 1, 3) := by decide +kernel
theorem dX9_atom_83 : decode cX9_atom 83 = .ok (.goto (-20), 3) := by decide +kernel
theorem dX9_atom_86 : decode cX9_atom 86 = .ok (.aload_n 0, 1) := by decide +kernel
theorem dX9_atom_87 : decode cX9_atom 87 = .ok (.iconst 0, 1) := by decide +kernel
theorem dX9_atom_88 : decode cX9_atom 88 = .ok (.invokevirtual 274, 3) := by decide +kernel
theorem dX9_atom_91 : decode cX9_atom 91 = .ok (.istore_n 2, 1) := by decide +kernel
theorem dX9_atom_92 : decode cX9_atom 92 = .ok (.iconst 0, 1) := by decide +kernel
theorem dX9_atom_93 : decode cX9_atom 93 = .ok (.istore_n 3, 1) := by decide +kernel
theorem dX9_atom_94 : decode cX9_atom 94 = .ok (.iload_n 3, 1) := by decide +kernel
theorem dX9_atom_95 : decode cX9_atom 95 = .ok (.iload_n 1, 1) := by decide +kernel
theorem dX9_atom_96 : decode cX9_atom 96 = .ok (.if_icmp .ge 21, 3) := by decide +kernel
theorem dX9_atom_99 : decode cX9_atom 99 = .ok (.aload_n 0, 1) := by decide +kernel
theorem dX9_atom_100 : decode cX9_atom 100 = .ok (.getfield 103, 3) := by decide +kernel
theorem dX9_atom_103 : decode cX9_atom 103 = .ok (.iload_n 3, 1) := by decide +kernel
theorem dX9_atom_104 : decode cX9_atom 104 = .ok (.aload_n 0, 1) := by decide +kernel
theorem dX9_atom_105 : decode cX9_atom 105 = .ok (.getfield 148, 3) := by decide +kernel
theorem dX9_atom_108 : decode cX9_atom 108 = .ok (.iload_n 3, 1) := by decide +kernel
theorem dX9_atom_109 : decode cX9_atom 109 = .ok (.iaload, 1) := by decide +kernel
theorem dX9_atom_110 : decode cX9_atom 110 = .ok (.iastore, 1) := by decide +kernel
theorem dX9_atom_111 : decode cX9_atom 111 = .ok (.iinc 3 1, 3) := by decide +kernel
theorem dX9_atom_114 : decode cX9_atom 114 = .ok (.goto (-20), 3) := by decide +kernel
theorem dX9_atom_117 : decode cX9_atom 117 = .ok (.aload_n 0, 1) := by decide +kernel
theorem dX9_atom_118 : decode cX9_atom 118 = .ok (.iload_n 1, 1) := by decide +kernel
theorem dX9_atom_119 : decode cX9_atom 119 = .ok (.putfield 220, 3) := by decide +kernel
theorem dX9_atom_122 : decode cX9_atom 122 = .ok (.aload_n 0, 1) := by decide +kernel
theorem dX9_atom_123 : decode cX9_atom 123 = .ok (.getfield 163, 3) := by decide +kernel
theorem dX9_atom_126 : decode cX9_atom 126 = .ok (.aload_n 0, 1) := by decide +kernel
theorem dX9_atom_127 : decode cX9_atom 127 = .ok (.getfield 388, 3) := by decide +kernel
theorem dX9_atom_130 : decode cX9_atom 130 = .ok (.aload_n 0, 1) := by decide +kernel
theorem dX9_atom_131 : decode cX9_atom 131 = .ok (.getfield 217, 3) := by decide +kernel
theorem dX9_atom_134 : decode cX9_atom 134 = .ok (.iastore, 1) := by decide +kernel
theorem dX9_atom_135 : decode cX9_atom 135 = .ok (.iload_n 2, 1) := by decide +kernel
theorem dX9_atom_136 : decode cX9_atom 136 = .ok (.ifCond .eq 12, 3) := by decide +kernel
theorem dX9_atom_139 : decode cX9_atom 139 = .ok (.aload_n 0, 1) := by decide +kernel
theorem dX9_atom_140 : decode cX9_atom 140 = .ok (.bipush 125, 2) := by decide +kernel
theorem dX9_atom_142 : decode cX9_atom 142 = .ok (.invokevirtual 244, 3) := by decide +kernel
theorem dX9_atom_145 : decode cX9_atom 145 = .ok (.ifCond .ne 5, 3) := by decide +kernel
theorem dX9_atom_148 : decode cX9_atom 148 = .ok (.iconst 0, 1) := by decide +kernel
theorem dX9_atom_149 : decode cX9_atom 149 = .ok (.ireturn, 1) := by decide +kernel
theorem dX9_atom_150 : decode cX9_atom 150 = .ok (.goto 124, 3) := by decide +kernel
theorem dX9_atom_153 : decode cX9_atom 153 = .ok (.aload_n 0, 1) := by decide +kernel
theorem dX9_atom_154 : decode cX9_atom 154 = .ok (.dup, 1) := by decide +kernel
theorem dX9_atom_155 : decode cX9_atom 155 = .ok (.getfield 203, 3) := by decide +kernel
theorem dX9_atom_158 : decode cX9_atom 158 = .ok (.iconst 1, 1) := by decide +kernel
theorem dX9_atom_159 : decode cX9_atom 159 = .ok (.iadd, 1) := by decide +kernel
theorem dX9_atom_160 : decode cX9_atom 160 = .ok (.putfield 203, 3) := by decide +kernel
theorem dX9_atom_163 : decode cX9_atom 163 = .ok (.aload_n 0, 1) := by decide +kernel
theorem dX9_atom_164 : decode cX9_atom 164 = .ok (.bipush 48, 2) := by decide +kernel
theorem dX9_atom_166 : decode cX9_atom 166 = .ok (.aload_n 0, 1) := by decide +kernel
theorem dX9_atom_167 : decode cX9_atom 167 = .ok (.getfield 254, 3) := by decide +kernel
theorem dX9_atom_170 : decode cX9_atom 170 = .ok (.invokevirtual 231, 3) := by decide +kernel
theorem dX9_atom_173 : decode cX9_atom 173 = .ok (.istore_n 1, 1) := by decide +kernel
theorem dX9_atom_174 : decode cX9_atom 174 = .ok (.iload_n 1, 1) := by decide +kernel
theorem dX9_atom_175 : decode cX9_atom 175 = .ok (.ifCond .ge 8, 3) := by decide +kernel
theorem dX9_atom_178 : decode cX9_atom 178 = .ok (.aload_n 0, 1) := by decide +kernel
theorem dX9_atom_179 : decode cX9_atom 179 = .ok (.invokevirtual 213, 3) := by decide +kernel
theorem dX9_atom_182 : decode cX9_atom 182 = .ok (.ireturn, 1) := by decide +kernel
theorem dX9_atom_183 : decode cX9_atom 183 = .ok (.aload_n 0, 1) := by decide +kernel
theorem dX9_atom_184 : decode cX9_atom 184 = .ok (.dup, 1) := by decide +kernel
theorem dX9_atom_185 : decode cX9_atom 185 = .ok (.getfield 203, 3) := by decide +kernel
theorem dX9_atom_188 : decode cX9_atom 188 = .ok (.iconst 1, 1) := by decide +kernel
theorem dX9_atom_189 : decode cX9_atom 189 = .ok (.iadd, 1) := by decide +kernel
theorem dX9_atom_190 : decode cX9_atom 190 = .ok (.putfield 203, 3) := by decide +kernel
theorem dX9_atom_193 : decode cX9_atom 193 = .ok (.aload_n 0, 1) := by decide +kernel
theorem dX9_atom_194 : decode cX9_atom 194 = .ok (.bipush 65, 2) := by decide +kernel
theorem dX9_atom_196 : decode cX9_atom 196 = .ok (.bipush 8, 2) := by decide +kernel
theorem dX9_atom_198 : decode cX9_atom 198 = .ok (.invokevirtual 231, 3) := by decide +kernel
theorem dX9_atom_201 : decode cX9_atom 201 = .ok (.istore_n 2, 1) := by decide +kernel
theorem dX9_atom_202 : decode cX9_atom 202 = .ok (.iload_n 2, 1) := by decide +kernel
theorem dX9_atom_203 : decode cX9_atom 203 = .ok (.ifCond .lt 17, 3) := by decide +kernel
theorem dX9_atom_206 : decode cX9_atom 206 = .ok (.aload_n 0, 1) := by decide +kernel
theorem dX9_atom_207 : decode cX9_atom 207 = .ok (.getfield 81, 3) := by decide +kernel
theorem dX9_atom_210 : decode cX9_atom 210 = .ok (.bipush 8, 2) := by decide +kernel
theorem dX9_atom_212 : decode cX9_atom 212 = .ok (.iload_n 1, 1) := by decide +kernel
theorem dX9_atom_213 : decode cX9_atom 213 = .ok (.imul, 1) := by decide +kernel
theorem dX9_atom_214 : decode cX9_atom 214 = .ok (.iload_n 2, 1) := by decide +kernel
theorem dX9_atom_215 : decode cX9_atom 215 = .ok (.iadd, 1) := by decide +kernel
theorem dX9_atom_216 : decode cX9_atom 216 = .ok (.iaload, 1) := by decide +kernel
theorem dX9_atom_217 : decode cX9_atom 217 = .ok (.ifCond .ge 8, 3) := by decide +kernel
theorem dX9_atom_220 : decode cX9_atom 220 = .ok (.aload_n 0, 1) := by decide +kernel
theorem dX9_atom_221 : decode cX9_atom 221 = .ok (.invokevirtual 213, 3) := by decide +kernel
theorem dX9_atom_224 : decode cX9_atom 224 = .ok (.ireturn, 1) := by decide +kernel
theorem dX9_atom_225 : decode cX9_atom 225 = .ok (.aload_n 0, 1) := by decide +kernel
theorem dX9_atom_226 : decode cX9_atom 226 = .ok (.getfield 154, 3) := by decide +kernel
theorem dX9_atom_229 : decode cX9_atom 229 = .ok (.aload_n 0, 1) := by decide +kernel
theorem dX9_atom_230 : decode cX9_atom 230 = .ok (.getfield 388, 3) := by decide +kernel
theorem dX9_atom_233 : decode cX9_atom 233 = .ok (.iload_n 1, 1) := by decide +kernel
theorem dX9_atom_234 : decode cX9_atom 234 = .ok (.iastore, 1) := by decide +kernel
theorem dX9_atom_235 : decode cX9_atom 235 = .ok (.aload_n 0, 1) := by decide +kernel
theorem dX9_atom_236 : decode cX9_atom 236 = .ok (.getfield 157, 3) := by decide +kernel
theorem dX9_atom_239 : decode cX9_atom 239 = .ok (.aload_n 0, 1) := by decide +kernel
theorem dX9_atom_240 : decode cX9_atom 240 = .ok (.getfield 388, 3) := by decide +kernel
theorem dX9_atom_243 : decode cX9_atom 243 = .ok (.aload_n 0, 1) := by decide +kernel
theorem dX9_atom_244 : decode cX9_atom 244 = .ok (.iload_n 1, 1) := by decide +kernel
theorem dX9_atom_245 : decode cX9_atom 245 = .ok (.aload_n 0, 1) := by decide +kernel
theorem dX9_atom_246 : decode cX9_atom 246 = .ok (.aload_n 0, 1) := by decide +kernel
theorem dX9_atom_247 : decode cX9_atom 247 = .ok (.getfield 81, 3) := by decide +kernel
theorem dX9_atom_250 : decode cX9_atom 250 = .ok (.bipush 8, 2) := by decide +kernel
theorem dX9_atom_252 : decode cX9_atom 252 = .ok (.iload_n 1, 1) := by decide +kernel
theorem dX9_atom_253 : decode cX9_atom 253 = .ok (.imul, 1) := by decide +kernel
theorem dX9_atom_254 : decode cX9_atom 254 = .ok (.iload_n 2, 1) := by decide +kernel
theorem dX9_atom_255 : decode cX9_atom 255 = .ok (.iadd, 1) := by decide +kernel
theorem dX9_atom_256 : decode cX9_atom 256 = .ok (.iaload, 1) := by decide +kernel
theorem dX9_atom_257 : decode cX9_atom 257 = .ok (.invokevirtual 280, 3) := by decide +kernel
theorem dX9_atom_260 : decode cX9_atom 260 = .ok (.invokevirtual 298, 3) := by decide +kernel
theorem dX9_atom_263 : decode cX9_atom 263 = .ok (.iastore, 1) := by decide +kernel
theorem dX9_atom_264 : decode cX9_atom 264 = .ok (.aload_n 0, 1) := by decide +kernel
theorem dX9_atom_265 : decode cX9_atom 265 = .ok (.dup, 1) := by decide +kernel
theorem dX9_atom_266 : decode cX9_atom 266 = .ok (.getfield 203, 3) := by decide +kernel
theorem dX9_atom_269 : decode cX9_atom 269 = .ok (.iconst 1, 1) := by decide +kernel
theorem dX9_atom_270 : decode cX9_atom 270 = .ok (.iadd, 1) := by decide +kernel
theorem dX9_atom_271 : decode cX9_atom 271 = .ok (.putfield 203, 3) := by decide +kernel
theorem dX9_atom_274 : decode cX9_atom 274 = .ok (.aload_n 0, 1) := by decide +kernel
theorem dX9_atom_275 : decode cX9_atom 275 = .ok (.aload_n 0, 1) := by decide +kernel
theorem dX9_atom_276 : decode cX9_atom 276 = .ok (.getfield 388, 3) := by decide +kernel
theorem dX9_atom_279 : decode cX9_atom 279 = .ok (.invokevirtual 385, 3) := by decide +kernel
theorem dX9_atom_282 : decode cX9_atom 282 = .ok (.aload_n 0, 1) := by decide +kernel
theorem dX9_atom_283 : decode cX9_atom 283 = .ok (.dup, 1) := by decide +kernel
theorem dX9_atom_284 : decode cX9_atom 284 = .ok (.getfield 388, 3) := by decide +kernel
theorem dX9_atom_287 : decode cX9_atom 287 = .ok (.iconst 1, 1) := by decide +kernel
theorem dX9_atom_288 : decode cX9_atom 288 = .ok (.iadd, 1) := by decide +kernel
theorem dX9_atom_289 : decode cX9_atom 289 = .ok (.putfield 388, 3) := by decide +kernel
theorem dX9_atom_292 : decode cX9_atom 292 = .ok (.iconst 1, 1) := by decide +kernel
theorem dX9_atom_293 : decode cX9_atom 293 = .ok (.ireturn, 1) := by decide +kernel
abbrev MX9_atom : zT := (yX9_atom, cX9_atom, 4, (Option.some Jvm.ClassFile.FieldType.boolean), [])
theorem plX9_atom : zplain MX9_atom 0 ∧ (zcodeW MX9_atom ∈ lw_all ∧ Cond.initialized MX9_atom.1.cls ∈ lw_all) := ⟨⟨by decide +kernel, by decide +kernel⟩, q2314, q127⟩
noncomputable def f_X9_atom_220 (x0 : Int) (σ : zM) : Option zO :=
  zgd (zis σ 10 x0) <|
  zci (f_X9_fail x0 σ) fun v1 σ2 =>
  zgd (z01 v1) <|
  some (0, zi v1, σ2)
theorem w_X9_atom_220 {g : zG} {lv : Nat} {out : zO} (x0 : Int) (σ : zM) {r : zO} (h : f_X9_atom_220 x0 σ = some r) (hk : (fun o : zO => o = out) r) : Gj g MX9_atom (lv + 3) 220 [(0, zr x0)] [] σ out := by
  revert h
  unfold f_X9_atom_220
  refine zst_ (gj_aload_n 0 (pc := 220) dX9_atom_220 rfl) ?_
  refine gb_gd (fun hb => ?_)
  refine gb_callI (pc := 221) (as := [zr x0]) (rest := []) (zCl.of (zLk_V (M := MX9_atom) (ci := 9) (r := (RX9, TX9, 84)) plX9_fail.1 rfl rfl (zisE hb).1 (zisE hb).2 dX9_atom_221 q2166 q2168 qs49 q2169) plX9_fail (Nat.le_of_ble_eq_true rfl) (fun h => c_X9_fail h)) (fun v1 σ2 => ?_)
  refine gb_gd (fun hb => ?_)
  intro h
  cases h
  have hk : (0, zi v1, σ2) = out := hk
  subst hk
  exact gj_ret (pc := 224) (t := .boolean) dX9_atom_224 rfl ⟨rfl, rfl⟩ (fun _ => z01E hb)
noncomputable def f_X9_atom_274 (x0 : Int) (σ : zM) : Option zO :=
  (zgf σ 969 x0).bind fun v1 =>
  zgd (zis σ 10 x0) <|
  zcv (f_X9_put x0 v1 σ) fun σ2 =>
  (zgf σ2 969 x0).bind fun v3 =>
  (zpf σ2 969 x0 (zadd v3 1)).bind fun σ4 =>
  zgd (z01 1) <|
  some (0, zi 1, σ4)
theorem w_X9_atom_274 {g : zG} {lv : Nat} {out : zO} (x0 : Int) (σ : zM) {r : zO} (h : f_X9_atom_274 x0 σ = some r) (hk : (fun o : zO => o = out) r) : Gj g MX9_atom (lv + 3) 274 [(0, zr x0)] [] σ out := by
  revert h
  unfold f_X9_atom_274
  refine zst_ (gj_aload_n 0 (pc := 274) dX9_atom_274 rfl) ?_
  refine zst_ (gj_aload_n 0 (pc := 275) dX9_atom_275 rfl) ?_
  refine gb_get (pc := 276) fl969 dX9_atom_276 q1951 (Or.inl rfl) (fun v1 => ?_)
  refine gb_gd (fun hb => ?_)
  refine gb_callV (pc := 279) (as := [zr x0, zi v1]) (rest := []) (zCl.of (zLk_V (M := MX9_atom) (ci := 9) (r := (RX9, TX9, 84)) plX9_put.1 rfl rfl (zisE hb).1 (zisE hb).2 dX9_atom_279 q2315 q2317 qs82 q2318) plX9_put (Nat.le_of_ble_eq_true rfl) (fun h => c_X9_put h)) (fun σ2 => ?_)
  refine zst_ (gj_aload_n 0 (pc := 282) dX9_atom_282 rfl) ?_
  refine zst_ (gj_dup (pc := 283) dX9_atom_283 rfl) ?_
  refine gb_get (pc := 284) fl969 dX9_atom_284 q1951 (Or.inl rfl) (fun v3 => ?_)
  refine zst_ (gj_iconst (pc := 287) dX9_atom_287 (by decide)) ?_
  refine zst_ (gj_iadd (pc := 288) dX9_atom_288) ?_
  refine gb_put (pc := 289) fl969 fr969 dX9_atom_289 q1951 (Or.inl rfl) (fun σ4 => ?_)
  refine zst_ (gj_iconst (pc := 292) dX9_atom_292 (by decide)) ?_
  refine gb_gd (fun hb => ?_)
  intro h
  cases h
  have hk : (0, zi 1, σ4) = out := hk
  subst hk
  exact gj_ret (pc := 293) (t := .boolean) dX9_atom_293 rfl ⟨rfl, rfl⟩ (fun _ => z01E hb)
noncomputable def f_X9_atom_148 (σ : zM) : Option zO :=
  zgd (z01 0) <|
  some (0, zi 0, σ)
theorem w_X9_atom_148 {g : zG} {lv : Nat} {out : zO} (σ : zM) {r : zO} (h : f_X9_atom_148  σ = some r) (hk : (fun o : zO => o = out) r) : Gj g MX9_atom (lv + 3) 148 [] [] σ out := by
  revert h
  unfold f_X9_atom_148
  refine zst_ (gj_iconst (pc := 148) dX9_atom_148 (by decide)) ?_
  refine gb_gd (fun hb => ?_)
  intro h
  cases h
  have hk : (0, zi 0, σ) = out := hk
  subst hk
  exact gj_ret (pc := 149) (t := .boolean) dX9_atom_149 rfl ⟨rfl, rfl⟩ (fun _ => z01E hb)
noncomputable def f_X9_atom_117 (x0 x1 x2 : Int) (σ : zM) : Option zO :=
  (zpf σ 942 x0 x1).bind fun σ1 =>
  (zgf σ1 973 x0).bind fun v2 =>
  (zgf σ1 969 x0).bind fun v3 =>
  (zgf σ1 936 x0).bind fun v4 =>
  (zpa σ1 101 v2 v3 v4).bind fun σ5 =>
  if x2 = 0 then
    f_X9_atom_148 σ5
  else
    zgd (zis σ5 10 x0) <|
    zci (f_X9_takes x0 125 σ5) fun v6 σ7 =>
    if v6 ≠ 0 then
      f_X9_atom_274 x0 σ7
    else
      f_X9_atom_148 σ7
theorem w_X9_atom_117 {g : zG} {lv : Nat} {out : zO} (x0 x1 x2 : Int) (σ : zM) {r : zO} (h : f_X9_atom_117 x0 x1 x2 σ = some r) (hk : (fun o : zO => o = out) r) : Gj g MX9_atom (lv + 3) 117 [(0, zr x0), (1, zi x1), (2, zi x2)] [] σ out := by
  revert h
  unfold f_X9_atom_117
  refine zst_ (gj_aload_n 0 (pc := 117) dX9_atom_117 rfl) ?_
  refine zst_ (gj_iload_n 1 (pc := 118) dX9_atom_118 rfl) ?_
  refine gb_put (pc := 119) fl942 fr942 dX9_atom_119 q1924 (Or.inl rfl) (fun σ1 => ?_)
  refine zst_ (gj_aload_n 0 (pc := 122) dX9_atom_122 rfl) ?_
  refine gb_get (pc := 123) fl973 dX9_atom_123 q1955 (Or.inl rfl) (fun v2 => ?_)
  refine zst_ (gj_aload_n 0 (pc := 126) dX9_atom_126 rfl) ?_
  refine gb_get (pc := 127) fl969 dX9_atom_127 q1951 (Or.inl rfl) (fun v3 => ?_)
  refine zst_ (gj_aload_n 0 (pc := 130) dX9_atom_130 rfl) ?_
  refine gb_get (pc := 131) fl936 dX9_atom_131 q1918 (Or.inl rfl) (fun v4 => ?_)
  refine gb_iast (pc := 134) dX9_atom_134 (fun σ5 => ?_)
  refine zst_ (gj_iload_n 2 (pc := 135) dX9_atom_135 rfl) ?_
  refine gb_if (gj_if_eq 148 (pc := 136) dX9_atom_136 (by decide)) ?_ ?_
  · refine zst_ (gj_sub [] rfl) ?_
    exact fun h => w_X9_atom_148 σ5 h hk
  · refine zst_ (gj_aload_n 0 (pc := 139) dX9_atom_139 rfl) ?_
    refine zst_ (gj_bipush (pc := 140) dX9_atom_140 ⟨rfl, by decide⟩) ?_
    refine gb_gd (fun hb => ?_)
    refine gb_callI (pc := 142) (as := [zr x0, zi 125]) (rest := []) (zCl.of (zLk_V (M := MX9_atom) (ci := 9) (r := (RX9, TX9, 84)) plX9_takes.1 rfl rfl (zisE hb).1 (zisE hb).2 dX9_atom_142 q2170 q2172 qs50 q2173) plX9_takes (Nat.le_of_ble_eq_true rfl) (fun h => c_X9_takes h)) (fun v6 σ7 => ?_)
    refine gb_if (gj_if_ne 150 (pc := 145) dX9_atom_145 (by decide)) ?_ ?_
    · refine zst_ (gj_goto 274 (pc := 150) dX9_atom_150 (by decide)) ?_
      refine zst_ (gj_sub [0] rfl) ?_
      exact fun h => w_X9_atom_274 x0 σ7 h hk
    · refine zst_ (gj_sub [] rfl) ?_
      exact fun h => w_X9_atom_148 σ7 h hk
noncomputable def f_X9_atom_94_b (x0 x1 x2 x3 : Int) (σ : zM) : Option ((Int × zM) ⊕ zO) :=
  if x1 ≤ x3 then
    (f_X9_atom_117 x0 x1 x2 σ).map (fun r => (.inr r))
  else
    (zgf σ 943 x0).bind fun v1 =>
    (zgf σ 966 x0).bind fun v2 =>
    (zga σ 101 v2 x3).bind fun v3 =>
    (zpa σ 101 v1 x3 v3).bind fun σ4 =>
    zlet (zadd x3 1) fun y5 =>
    some (.inl (y5, σ4))
noncomputable def f_X9_atom_94 (x0 x1 x2 x3 : Int) (σ : zM) : Option zO :=
  zloop (fun s : Int × zM => f_X9_atom_94_b x0 x1 x2 s.1 s.2) (x3, σ)
theorem w_X9_atom_94_b {g : zG} {lv : Nat} {out : zO} (x0 x1 x2 x3 : Int) (σ : zM) {r : ((Int × zM) ⊕ zO)} (h : f_X9_atom_94_b x0 x1 x2 x3 σ = some r) (hk : (zKL (fun s : Int × zM => Gj g MX9_atom (lv + 3) 94 [(0, zr x0), (1, zi x1), (2, zi x2), (3, zi s.1)] [] s.2 out) (fun o : zO => o = out)) r) : Gj g MX9_atom (lv + 3) 94 [(0, zr x0), (1, zi x1), (2, zi x2), (3, zi x3)] [] σ out := by
  revert h
  unfold f_X9_atom_94_b
  refine zst_ (gj_iload_n 3 (pc := 94) dX9_atom_94 rfl) ?_
  refine zst_ (gj_iload_n 1 (pc := 95) dX9_atom_95 rfl) ?_
  refine gb_if (gj_icmp_ge 117 (pc := 96) dX9_atom_96 (by decide)) ?_ ?_
  · refine zst_ (gj_sub [0, 1, 2] rfl) ?_
    intro h
    obtain ⟨r0, h0, rfl⟩ := zmE h
    exact w_X9_atom_117 x0 x1 x2 σ h0 hk
  · refine zst_ (gj_aload_n 0 (pc := 99) dX9_atom_99 rfl) ?_
    refine gb_get (pc := 100) fl943 dX9_atom_100 q1925 (Or.inl rfl) (fun v1 => ?_)
    refine zst_ (gj_iload_n 3 (pc := 103) dX9_atom_103 rfl) ?_
    refine zst_ (gj_aload_n 0 (pc := 104) dX9_atom_104 rfl) ?_
    refine gb_get (pc := 105) fl966 dX9_atom_105 q1948 (Or.inl rfl) (fun v2 => ?_)
    refine zst_ (gj_iload_n 3 (pc := 108) dX9_atom_108 rfl) ?_
    refine gb_iald (pc := 109) dX9_atom_109 (fun v3 => ?_)
    refine gb_iast (pc := 110) dX9_atom_110 (fun σ4 => ?_)
    refine gb_iinc (pc := 111) 3 (fun y5 => [(3, zi y5), (0, zr x0), (1, zi x1), (2, zi x2)]) dX9_atom_111 rfl (by decide) (fun _ => rfl) (fun y5 => ?_)
    refine zst_ (gj_goto 94 (pc := 114) dX9_atom_114 (by decide)) ?_
    refine zst_ (gj_sub [1, 2, 3, 0] rfl) ?_
    intro h
    cases h
    exact hk
theorem w_X9_atom_94 {g : zG} {lv : Nat} {out : zO} (x0 x1 x2 x3 : Int) (σ : zM) {r : zO} (h : f_X9_atom_94 x0 x1 x2 x3 σ = some r) (hk : (fun o : zO => o = out) r) : Gj g MX9_atom (lv + 3) 94 [(0, zr x0), (1, zi x1), (2, zi x2), (3, zi x3)] [] σ out :=
  gj_loop (P := (fun s : Int × zM => Gj g MX9_atom (lv + 3) 94 [(0, zr x0), (1, zi x1), (2, zi x2), (3, zi s.1)] [] s.2 out)) (fun s x hb hx => w_X9_atom_94_b x0 x1 x2 s.1 s.2 hb hx) h hk
noncomputable def f_X9_atom_86 (x0 x1 : Int) (σ : zM) : Option zO :=
  zgd (zis σ 10 x0) <|
  zci (f_X9_expression x0 0 σ) fun v1 σ2 =>
  f_X9_atom_94 x0 x1 v1 0 σ2
theorem w_X9_atom_86 {g : zG} {lv : Nat} {out : zO} (x0 x1 : Int) (σ : zM) {r : zO} (h : f_X9_atom_86 x0 x1 σ = some r) (hk : (fun o : zO => o = out) r) : Gj g MX9_atom (lv + 3) 86 [(0, zr x0), (1, zi x1)] [] σ out := by
  revert h
  unfold f_X9_atom_86
  refine zst_ (gj_aload_n 0 (pc := 86) dX9_atom_86 rfl) ?_
  refine zst_ (gj_iconst (pc := 87) dX9_atom_87 (by decide)) ?_
  refine gb_gd (fun hb => ?_)
  refine gb_callI (pc := 88) (as := [zr x0, zi 0]) (rest := []) (zCl.of (zLk_V (M := MX9_atom) (ci := 9) (r := (RX9, TX9, 84)) plX9_expression.1 rfl rfl (zisE hb).1 (zisE hb).2 dX9_atom_88 q2202 q2204 qs58 q2205) plX9_expression (Nat.le_of_ble_eq_true rfl) (fun h => c_X9_expression h)) (fun v1 σ2 => ?_)
  refine zst_ (gj_istore_n (pc := 91) (ls' := [(2, zi v1), (0, zr x0), (1, zi x1)]) dX9_atom_91 (by decide) rfl) ?_
  refine zst_ (gj_iconst (pc := 92) dX9_atom_92 (by decide)) ?_
  refine zst_ (gj_istore_n (pc := 93) (ls' := [(3, zi 0), (2, zi v1), (0, zr x0), (1, zi x1)]) dX9_atom_93 (by decide) rfl) ?_
  refine zst_ (gj_sub [2, 3, 1, 0] rfl) ?_
  exact fun h => w_X9_atom_94 x0 x1 v1 0 σ2 h hk
noncomputable def f_X9_atom_63_b (x0 x1 x2 : Int) (σ : zM) : Option ((Int × zM) ⊕ zO) :=
  if x1 ≤ x2 then
    (f_X9_atom_86 x0 x1 σ).map (fun r => (.inr r))
  else
    (zgf σ 966 x0).bind fun v1 =>
    (zgf σ 943 x0).bind fun v2 =>
    (zga σ 101 v2 x2).bind fun v3 =>
    (zpa σ 101 v1 x2 v3).bind fun σ4 =>
    zlet (zadd x2 1) fun y5 =>
    some (.inl (y5, σ4))
noncomputable def f_X9_atom_63 (x0 x1 x2 : Int) (σ : zM) : Option zO :=
  zloop (fun s : Int × zM => f_X9_atom_63_b x0 x1 s.1 s.2) (x2, σ)
theorem w_X9_atom_63_b {g : zG} {lv : Nat} {out : zO} (x0 x1 x2 : Int) (σ : zM) {r : ((Int × zM) ⊕ zO)} (h : f_X9_atom_63_b x0 x1 x2 σ = some r) (hk : (zKL (fun s : Int × zM => Gj g MX9_atom (lv + 3) 63 [(0, zr x0), (1, zi x1), (2, zi s.1)] [] s.2 out) (fun o : zO => o = out)) r) : Gj g MX9_atom (lv + 3) 63 [(0, zr x0), (1, zi x1), (2, zi x2)] [] σ out := by
  revert h
  unfold f_X9_atom_63_b
  refine zst_ (gj_iload_n 2 (pc := 63) dX9_atom_63 rfl) ?_
  refine zst_ (gj_iload_n 1 (pc := 64) dX9_atom_64 rfl) ?_
  refine gb_if (gj_icmp_ge 86 (pc := 65) dX9_atom_65 (by decide)) ?_ ?_
  · refine zst_ (gj_sub [0, 1] rfl) ?_
    intro h
    obtain ⟨r0, h0, rfl⟩ := zmE h
    exact w_X9_atom_86 x0 x1 σ h0 hk
  · refine zst_ (gj_aload_n 0 (pc := 68) dX9_atom_68 rfl) ?_
    refine gb_get (pc := 69) fl966 dX9_atom_69 q1948 (Or.inl rfl) (fun v1 => ?_)
    refine zst_ (gj_iload_n 2 (pc := 72) dX9_atom_72 rfl) ?_
    refine zst_ (gj_aload_n 0 (pc := 73) dX9_atom_73 rfl) ?_
    refine gb_get (pc := 74) fl943 dX9_atom_74 q1925 (Or.inl rfl) (fun v2 => ?_)
    refine zst_ (gj_iload_n 2 (pc := 77) dX9_atom_77 rfl) ?_
    refine gb_iald (pc := 78) dX9_atom_78 (fun v3 => ?_)
    refine gb_iast (pc := 79) dX9_atom_79 (fun σ4 => ?_)
    refine gb_iinc (pc := 80) 2 (fun y5 => [(2, zi y5), (0, zr x0), (1, zi x1)]) dX9_atom_80 rfl (by decide) (fun _ => rfl) (fun y5 => ?_)
    refine zst_ (gj_goto 63 (pc := 83) dX9_atom_83 (by decide)) ?_
    refine zst_ (gj_sub [1, 2, 0] rfl) ?_
    intro h
    cases h
    exact hk
theorem w_X9_atom_63 {g : zG} {lv : Nat} {out : zO} (x0 x1 x2 : Int) (σ : zM) {r : zO} (h : f_X9_atom_63 x0 x1 x2 σ = some r) (hk : (fun o : zO => o = out) r) : Gj g MX9_atom (lv + 3) 63 [(0, zr x0), (1, zi x1), (2, zi x2)] [] σ out :=
  gj_loop (P := (fun s : Int × zM => Gj g MX9_atom (lv + 3) 63 [(0, zr x0), (1, zi x1), (2, zi s.1)] [] s.2 out)) (fun s x hb hx => w_X9_atom_63_b x0 x1 s.1 s.2 hb hx) h hk
noncomputable def f_X9_atom (x0 : Int) (σ : zM) : Option zO :=
  (zgf σ 969 x0).bind fun v1 =>
  if v1 ≠ 8 then
    zgd (zis σ 10 x0) <|
    zci (f_X9_here x0 σ) fun v2 σ3 =>
    if v2 ≠ 123 then
      (zgf σ3 903 x0).bind fun v4 =>
      (zpf σ3 903 x0 (zadd v4 1)).bind fun σ5 =>
      (zgf σ5 930 x0).bind fun v6 =>
      zgd (zis σ5 10 x0) <|
      zci (f_X9_from x0 48 v6 σ5) fun v7 σ8 =>
      if 0 ≤ v7 then
        (zgf σ8 903 x0).bind fun v9 =>
        (zpf σ8 903 x0 (zadd v9 1)).bind fun σ10 =>
        zgd (zis σ10 10 x0) <|
        zci (f_X9_from x0 65 8 σ10) fun v11 σ12 =>
        if v11 < 0 then
          f_X9_atom_220 x0 σ12
        else
          (zgf σ12 933 x0).bind fun v13 =>
          (zga σ12 101 v13 (zadd (zmul 8 v7) v11)).bind fun v14 =>
          if 0 ≤ v14 then
            (zgf σ12 970 x0).bind fun v15 =>
            (zgf σ12 969 x0).bind fun v16 =>
            (zpa σ12 101 v15 v16 v7).bind fun σ17 =>
            (zgf σ17 971 x0).bind fun v18 =>
            (zgf σ17 969 x0).bind fun v19 =>
            (zgf σ17 933 x0).bind fun v20 =>
            (zga σ17 101 v20 (zadd (zmul 8 v7) v11)).bind fun v21 =>
            zgd (zis σ17 10 x0) <|
            zci (f_X9_instead x0 v21 σ17) fun v22 σ23 =>
            zgd (zis σ23 10 x0) <|
            zci (f_X9_pointOf x0 v7 v22 σ23) fun v24 σ25 =>
            (zpa σ25 101 v18 v19 v24).bind fun σ26 =>
            (zgf σ26 903 x0).bind fun v27 =>
            (zpf σ26 903 x0 (zadd v27 1)).bind fun σ28 =>
            f_X9_atom_274 x0 σ28
          else
            f_X9_atom_220 x0 σ12
      else
        zgd (zis σ8 10 x0) <|
        zci (f_X9_fail x0 σ8) fun v29 σ30 =>
        zgd (z01 v29) <|
        some (0, zi v29, σ30)
    else
      (zgf σ3 903 x0).bind fun v31 =>
      (zpf σ3 903 x0 (zadd v31 1)).bind fun σ32 =>
      (zgf σ32 942 x0).bind fun v33 =>
      (zgf σ32 970 x0).bind fun v34 =>
      (zgf σ32 969 x0).bind fun v35 =>
      (zpa σ32 101 v34 v35 (-1)).bind fun σ36 =>
      (zgf σ36 972 x0).bind fun v37 =>
      (zgf σ36 969 x0).bind fun v38 =>
      (zgf σ36 936 x0).bind fun v39 =>
      (zpa σ36 101 v37 v38 v39).bind fun σ40 =>
      f_X9_atom_63 x0 v33 0 σ40
  else
    zgd (zis σ 10 x0) <|
    zci (f_X9_fail x0 σ) fun v41 σ42 =>
    zgd (z01 v41) <|
    some (0, zi v41, σ42)
theorem c_X9_atom {g : zG} {lv : Nat} {x0 : Int} {σ : zM} {out : zO} (h : f_X9_atom x0 σ = some out) : Cj g (lv + 3) MX9_atom [zr x0] σ out := by
  refine cj_go (ls := [(0, zr x0)]) (by decide) (Nat.le_of_ble_eq_true rfl) rfl (zgen h (fun r hk => ?_))
  unfold f_X9_atom
  refine zst_ (gj_aload_n 0 (pc := 0) dX9_atom_0 rfl) ?_
  refine gb_get (pc := 1) fl969 dX9_atom_1 q1951 (Or.inl rfl) (fun v1 => ?_)
  refine zst_ (gj_bipush (pc := 4) dX9_atom_4 ⟨rfl, by decide⟩) ?_
  refine gb_if (gj_icmp_ne 14 (pc := 6) dX9_atom_6 (by decide)) ?_ ?_
  · refine zst_ (gj_aload_n 0 (pc := 14) dX9_atom_14 rfl) ?_
    refine gb_gd (fun hb => ?_)
    refine gb_callI (pc := 15) (as := [zr x0]) (rest := []) (zCl.of (zLk_V (M := MX9_atom) (ci := 9) (r := (RX9, TX9, 84)) plX9_here.1 rfl rfl (zisE hb).1 (zisE hb).2 dX9_atom_15 q2154 q2156 qs46 q2157) plX9_here (Nat.le_of_ble_eq_true rfl) (fun h => c_X9_here h)) (fun v2 σ3 => ?_)
    refine zst_ (gj_bipush (pc := 18) dX9_atom_18 ⟨rfl, by decide⟩) ?_
    refine gb_if (gj_icmp_ne 153 (pc := 20) dX9_atom_20 (by decide)) ?_ ?_
    · refine zst_ (gj_aload_n 0 (pc := 153) dX9_atom_153 rfl) ?_
      refine zst_ (gj_dup (pc := 154) dX9_atom_154 rfl) ?_
      refine gb_get (pc := 155) fl903 dX9_atom_155 q1885 (Or.inl rfl) (fun v4 => ?_)
      refine zst_ (gj_iconst (pc := 158) dX9_atom_158 (by decide)) ?_
      refine zst_ (gj_iadd (pc := 159) dX9_atom_159) ?_
      refine gb_put (pc := 160) fl903 fr903 dX9_atom_160 q1885 (Or.inl rfl) (fun σ5 => ?_)
      refine zst_ (gj_aload_n 0 (pc := 163) dX9_atom_163 rfl) ?_
      refine zst_ (gj_bipush (pc := 164) dX9_atom_164 ⟨rfl, by decide⟩) ?_
      refine zst_ (gj_aload_n 0 (pc := 166) dX9_atom_166 rfl) ?_
      refine gb_get (pc := 167) fl930 dX9_atom_167 q1912 (Or.inl rfl) (fun v6 => ?_)
      refine gb_gd (fun hb => ?_)
      refine gb_callI (pc := 170) (as := [zr x0, zi 48, zi v6]) (rest := []) (zCl.of (zLk_V (M := MX9_atom) (ci := 9) (r := (RX9, TX9, 84)) plX9_from.1 rfl rfl (zisE hb).1 (zisE hb).2 dX9_atom_170 q2162 q2164 qs48 q2165) plX9_from (Nat.le_of_ble_eq_true rfl) (fun h => c_X9_from h)) (fun v7 σ8 => ?_)
      refine zst_ (gj_istore_n (pc := 173) (ls' := [(1, zi v7), (0, zr x0)]) dX9_atom_173 (by decide) rfl) ?_
      refine zst_ (gj_iload_n 0 (pc := 174) dX9_atom_174 rfl) ?_
      refine gb_if (gj_if_ge 183 (pc := 175) dX9_atom_175 (by decide)) ?_ ?_
      · refine zst_ (gj_aload_n 1 (pc := 183) dX9_atom_183 rfl) ?_
        refine zst_ (gj_dup (pc := 184) dX9_atom_184 rfl) ?_
        refine gb_get (pc := 185) fl903 dX9_atom_185 q1885 (Or.inl rfl) (fun v9 => ?_)
        refine zst_ (gj_iconst (pc := 188) dX9_atom_188 (by decide)) ?_
        refine zst_ (gj_iadd (pc := 189) dX9_atom_189) ?_
        refine gb_put (pc := 190) fl903 fr903 dX9_atom_190 q1885 (Or.inl rfl) (fun σ10 => ?_)
        refine zst_ (gj_aload_n 1 (pc := 193) dX9_atom_193 rfl) ?_
        refine zst_ (gj_bipush (pc := 194) dX9_atom_194 ⟨rfl, by decide⟩) ?_
        refine zst_ (gj_bipush (pc := 196) dX9_atom_196 ⟨rfl, by decide⟩) ?_
        refine gb_gd (fun hb => ?_)
        refine gb_callI (pc := 198) (as := [zr x0, zi 65, zi 8]) (rest := []) (zCl.of (zLk_V (M := MX9_atom) (ci := 9) (r := (RX9, TX9, 84)) plX9_from.1 rfl rfl (zisE hb).1 (zisE hb).2 dX9_atom_198 q2162 q2164 qs48 q2165) plX9_from (Nat.le_of_ble_eq_true rfl) (fun h => c_X9_from h)) (fun v11 σ12 => ?_)
        refine zst_ (gj_istore_n (pc := 201) (ls' := [(2, zi v11), (1, zi v7), (0, zr x0)]) dX9_atom_201 (by decide) rfl) ?_
        refine zst_ (gj_iload_n 0 (pc := 202) dX9_atom_202 rfl) ?_
        refine gb_if (gj_if_lt 220 (pc := 203) dX9_atom_203 (by decide)) ?_ ?_
        · refine zst_ (gj_sub [2] rfl) ?_
          exact fun h => w_X9_atom_220 x0 σ12 h hk
        · refine zst_ (gj_aload_n 2 (pc := 206) dX9_atom_206 rfl) ?_
          refine gb_get (pc := 207) fl933 dX9_atom_207 q1915 (Or.inl rfl) (fun v13 => ?_)
          refine zst_ (gj_bipush (pc := 210) dX9_atom_210 ⟨rfl, by decide⟩) ?_
          refine zst_ (gj_iload_n 1 (pc := 212) dX9_atom_212 rfl) ?_
          refine zst_ (gj_imul (pc := 213) dX9_atom_213) ?_
          refine zst_ (gj_iload_n 0 (pc := 214) dX9_atom_214 rfl) ?_
          refine zst_ (gj_iadd (pc := 215) dX9_atom_215) ?_
          refine gb_iald (pc := 216) dX9_atom_216 (fun v14 => ?_)
          refine gb_if (gj_if_ge 225 (pc := 217) dX9_atom_217 (by decide)) ?_ ?_
          · refine zst_ (gj_aload_n 2 (pc := 225) dX9_atom_225 rfl) ?_
            refine gb_get (pc := 226) fl970 dX9_atom_226 q1952 (Or.inl rfl) (fun v15 => ?_)
            refine zst_ (gj_aload_n 2 (pc := 229) dX9_atom_229 rfl) ?_
            refine gb_get (pc := 230) fl969 dX9_atom_230 q1951 (Or.inl rfl) (fun v16 => ?_)
            refine zst_ (gj_iload_n 1 (pc := 233) dX9_atom_233 rfl) ?_
            refine gb_iast (pc := 234) dX9_atom_234 (fun σ17 => ?_)
            refine zst_ (gj_aload_n 2 (pc := 235) dX9_atom_235 rfl) ?_
            refine gb_get (pc := 236) fl971 dX9_atom_236 q1953 (Or.inl rfl) (fun v18 => ?_)
            refine zst_ (gj_aload_n 2 (pc := 239) dX9_atom_239 rfl) ?_
            refine gb_get (pc := 240) fl969 dX9_atom_240 q1951 (Or.inl rfl) (fun v19 => ?_)
            refine zst_ (gj_aload_n 2 (pc := 243) dX9_atom_243 rfl) ?_
            refine zst_ (gj_iload_n 1 (pc := 244) dX9_atom_244 rfl) ?_
            refine zst_ (gj_aload_n 2 (pc := 245) dX9_atom_245 rfl) ?_
            refine zst_ (gj_aload_n 2 (pc := 246) dX9_atom_246 rfl) ?_
            refine gb_get (pc := 247) fl933 dX9_atom_247 q1915 (Or.inl rfl) (fun v20 => ?_)
            refine zst_ (gj_bipush (pc := 250) dX9_atom_250 ⟨rfl, by decide⟩) ?_
            refine zst_ (gj_iload_n 1 (pc := 252) dX9_atom_252 rfl) ?_
            refine zst_ (gj_imul (pc := 253) dX9_atom_253) ?_
            refine zst_ (gj_iload_n 0 (pc := 254) dX9_atom_254 rfl) ?_
            refine zst_ (gj_iadd (pc := 255) dX9_atom_255) ?_
            refine gb_iald (pc := 256) dX9_atom_256 (fun v21 => ?_)
            refine gb_gd (fun hb => ?_)
            refine gb_callI (pc := 257) (as := [zr x0, zi v21]) (rest := [zi v7, zr x0, zi v19, zr v18]) (zCl.of (zLk_V (M := MX9_atom) (ci := 9) (r := (RX9, TX9, 84)) plX9_instead.1 rfl rfl (zisE hb).1 (zisE hb).2 dX9_atom_257 q2221 q2223 qs62 q2224) plX9_instead (Nat.le_of_ble_eq_true rfl) (fun h => c_X9_instead h)) (fun v22 σ23 => ?_)
            refine gb_gd (fun hb => ?_)
            refine gb_callI (pc := 260) (as := [zr x0, zi v7, zi v22]) (rest := [zi v19, zr v18]) (zCl.of (zLk_V (M := MX9_atom) (ci := 9) (r := (RX9, TX9, 84)) plX9_pointOf.1 rfl rfl (zisE hb).1 (zisE hb).2 dX9_atom_260 q2233 q2235 qs65 q2236) plX9_pointOf (Nat.le_of_ble_eq_true rfl) (fun h => c_X9_pointOf h)) (fun v24 σ25 => ?_)
            refine gb_iast (pc := 263) dX9_atom_263 (fun σ26 => ?_)
            refine zst_ (gj_aload_n 2 (pc := 264) dX9_atom_264 rfl) ?_
            refine zst_ (gj_dup (pc := 265) dX9_atom_265 rfl) ?_
            refine gb_get (pc := 266) fl903 dX9_atom_266 q1885 (Or.inl rfl) (fun v27 => ?_)
            refine zst_ (gj_iconst (pc := 269) dX9_atom_269 (by decide)) ?_
            refine zst_ (gj_iadd (pc := 270) dX9_atom_270) ?_
            refine gb_put (pc := 271) fl903 fr903 dX9_atom_271 q1885 (Or.inl rfl) (fun σ28 => ?_)
            refine zst_ (gj_sub [2] rfl) ?_
            exact fun h => w_X9_atom_274 x0 σ28 h hk
          · refine zst_ (gj_sub [2] rfl) ?_
            exact fun h => w_X9_atom_220 x0 σ12 h hk
      · refine zst_ (gj_aload_n 1 (pc := 178) dX9_atom_178 rfl) ?_
        refine gb_gd (fun hb => ?_)
        refine gb_callI (pc := 179) (as := [zr x0]) (rest := []) (zCl.of (zLk_V (M := MX9_atom) (ci := 9) (r := (RX9, TX9, 84)) plX9_fail.1 rfl rfl (zisE hb).1 (zisE hb).2 dX9_atom_179 q2166 q2168 qs49 q2169) plX9_fail (Nat.le_of_ble_eq_true rfl) (fun h => c_X9_fail h)) (fun v29 σ30 => ?_)
        refine gb_gd (fun hb => ?_)
        intro h
        cases h
        have hk : (0, zi v29, σ30) = out := hk
        subst hk
        exact gj_ret (pc := 182) (t := .boolean) dX9_atom_182 rfl ⟨rfl, rfl⟩ (fun _ => z01E hb)
    · refine zst_ (gj_aload_n 0 (pc := 23) dX9_atom_23 rfl) ?_
      refine zst_ (gj_dup (pc := 24) dX9_atom_24 rfl) ?_
      refine gb_get (pc := 25) fl903 dX9_atom_25 q1885 (Or.inl rfl) (fun v31 => ?_)
      refine zst_ (gj_iconst (pc := 28) dX9_atom_28 (by decide)) ?_
      refine zst_ (gj_iadd (pc := 29) dX9_atom_29) ?_
      refine gb_put (pc := 30) fl903 fr903 dX9_atom_30 q1885 (Or.inl rfl) (fun σ32 => ?_)
      refine zst_ (gj_aload_n 0 (pc := 33) dX9_atom_33 rfl) ?_
      refine gb_get (pc := 34) fl942 dX9_atom_34 q1924 (Or.inl rfl) (fun v33 => ?_)
      refine zst_ (gj_istore_n (pc := 37) (ls' := [(1, zi v33), (0, zr x0)]) dX9_atom_37 (by decide) rfl) ?_
      refine zst_ (gj_aload_n 1 (pc := 38) dX9_atom_38 rfl) ?_
      refine gb_get (pc := 39) fl970 dX9_atom_39 q1952 (Or.inl rfl) (fun v34 => ?_)
      refine zst_ (gj_aload_n 1 (pc := 42) dX9_atom_42 rfl) ?_
      refine gb_get (pc := 43) fl969 dX9_atom_43 q1951 (Or.inl rfl) (fun v35 => ?_)
      refine zst_ (gj_iconst (pc := 46) dX9_atom_46 (by decide)) ?_
      refine gb_iast (pc := 47) dX9_atom_47 (fun σ36 => ?_)
      refine zst_ (gj_aload_n 1 (pc := 48) dX9_atom_48 rfl) ?_
      refine gb_get (pc := 49) fl972 dX9_atom_49 q1954 (Or.inl rfl) (fun v37 => ?_)
      refine zst_ (gj_aload_n 1 (pc := 52) dX9_atom_52 rfl) ?_
      refine gb_get (pc := 53) fl969 dX9_atom_53 q1951 (Or.inl rfl) (fun v38 => ?_)
      refine zst_ (gj_aload_n 1 (pc := 56) dX9_atom_56 rfl) ?_
      refine gb_get (pc := 57) fl936 dX9_atom_57 q1918 (Or.inl rfl) (fun v39 => ?_)
      refine gb_iast (pc := 60) dX9_atom_60 (fun σ40 => ?_)
      refine zst_ (gj_iconst (pc := 61) dX9_atom_61 (by decide)) ?_
      refine zst_ (gj_istore_n (pc := 62) (ls' := [(2, zi 0), (1, zi v33), (0, zr x0)]) dX9_atom_62 (by decide) rfl) ?_
      refine zst_ (gj_sub [2, 1, 0] rfl) ?_
      exact fun h => w_X9_atom_63 x0 v33 0 σ40 h hk
  · refine zst_ (gj_aload_n 0 (pc := 9) dX9_atom_9 rfl) ?_
    refine gb_gd (fun hb => ?_)
    refine gb_callI (pc := 10) (as := [zr x0]) (rest := []) (zCl.of (zLk_V (M := MX9_atom) (ci := 9) (r := (RX9, TX9, 84)) plX9_fail.1 rfl rfl (zisE hb).1 (zisE hb).2 dX9_atom_10 q2166 q2168 qs49 q2169) plX9_fail (Nat.le_of_ble_eq_true rfl) (fun h => c_X9_fail h)) (fun v41 σ42 => ?_)
    refine gb_gd (fun hb => ?_)
    intro h
    cases h
    have hk : (0, zi v41, σ42) = out := hk
    subst hk
    exact gj_ret (pc := 13) (t := .boolean) dX9_atom_13 rfl ⟨rfl, rfl⟩ (fun _ => z01E hb)
theorem q2322 : (Jvm.Cond.code ({ cls := "LassoFinderModel", name := "putAll", desc := "(I)V" } : Jvm.MethodName) prog_22_method_44_code (2 : Nat) (Option.none : Option Jvm.ClassFile.FieldType)) ∈ lw_all := lw_g (lw_at lw_m10 62 rfl) rfl
abbrev cX9_putAll : ByteArray := prog_22_method_44_code
def yX9_putAll : MethodName := ⟨RX9, "putAll", "(I)V"⟩
theorem dX9_putAll_0 : decode cX9_putAll 0 = .ok (.aload_n 0, 1) := by decide +kernel
theorem dX9_putAll_1 : decode cX9_putAll 1 = .ok (.getfield 220, 3) := by decide +kernel
theorem dX9_putAll_4 : decode cX9_putAll 4 = .ok (.ifCond .le 47, 3) := by decide +kernel
theorem dX9_putAll_7 : decode cX9_putAll 7 = .ok (.aload_n 0, 1) := by decide +kernel
theorem dX9_putAll_8 : decode cX9_putAll 8 = .ok (.getfield 103, 3) := by decide +kernel
theorem dX9_putAll_11 : decode cX9_putAll 11 = .ok (.aload_n 0, 1) := by decide +kernel
theorem dX9_putAll_12 : decode cX9_putAll 12 = .ok (.getfield 220, 3) := by decide +kernel
theorem dX9_putAll_15 : decode cX9_putAll 15 = .ok (.iconst 1, 1) := by decide +kernel
theorem dX9_putAll_16 : decode cX9_putAll 16 = .ok (.isub, 1) := by decide +kernel
theorem dX9_putAll_17 : decode cX9_putAll 17 = .ok (.iaload, 1) := by decide +kernel
theorem dX9_putAll_18 : decode cX9_putAll 18 = .ok (.invokestatic 382, 3) := by decide +kernel
theorem dX9_putAll_21 : decode cX9_putAll 21 = .ok (.iload_n 1, 1) := by decide +kernel
theorem dX9_putAll_22 : decode cX9_putAll 22 = .ok (.if_icmp .lt 29, 3) := by decide +kernel
theorem dX9_putAll_25 : decode cX9_putAll 25 = .ok (.aload_n 0, 1) := by decide +kernel
theorem dX9_putAll_26 : decode cX9_putAll 26 = .ok (.dup, 1) := by decide +kernel
theorem dX9_putAll_27 : decode cX9_putAll 27 = .ok (.getfield 220, 3) := by decide +kernel
theorem dX9_putAll_30 : decode cX9_putAll 30 = .ok (.iconst 1, 1) := by decide +kernel
theorem dX9_putAll_31 : decode cX9_putAll 31 = .ok (.isub, 1) := by decide +kernel
theorem dX9_putAll_32 : decode cX9_putAll 32 = .ok (.putfield 220, 3) := by decide +kernel
theorem dX9_putAll_35 : decode cX9_putAll 35 = .ok (.aload_n 0, 1) := by decide +kernel
theorem dX9_putAll_36 : decode cX9_putAll 36 = .ok (.aload_n 0, 1) := by decide +kernel
theorem dX9_putAll_37 : decode cX9_putAll 37 = .ok (.getfield 103, 3) := by decide +kernel
theorem dX9_putAll_40 : decode cX9_putAll 40 = .ok (.aload_n 0, 1) := by decide +kernel
theorem dX9_putAll_41 : decode cX9_putAll 41 = .ok (.getfield 220, 3) := by decide +kernel
theorem dX9_putAll_44 : decode cX9_putAll 44 = .ok (.iaload, 1) := by decide +kernel
theorem dX9_putAll_45 : decode cX9_putAll 45 = .ok (.invokevirtual 385, 3) := by decide +kernel
theorem dX9_putAll_48 : decode cX9_putAll 48 = .ok (.goto (-48), 3) := by decide +kernel
theorem dX9_putAll_51 : decode cX9_putAll 51 = .ok (.return_, 1) := by decide +kernel
abbrev MX9_putAll : zT := (yX9_putAll, cX9_putAll, 2, (Option.none : Option Jvm.ClassFile.FieldType), [])
theorem plX9_putAll : zplain MX9_putAll 1 ∧ (zcodeW MX9_putAll ∈ lw_all ∧ Cond.initialized MX9_putAll.1.cls ∈ lw_all) := ⟨⟨by decide +kernel, by decide +kernel⟩, q2322, q127⟩
noncomputable def f_X9_putAll_51 (σ : zM) : Option zO :=
  some (0, ((3, 0) : zV), σ)
theorem w_X9_putAll_51 {g : zG} {lv : Nat} {out : zO} (σ : zM) {r : zO} (h : f_X9_putAll_51  σ = some r) (hk : (fun o : zO => o = out) r) : Gj g MX9_putAll (lv + 1) 51 [] [] σ out := by
  revert h
  unfold f_X9_putAll_51
  intro h
  cases h
  have hk : (0, ((3, 0) : zV), σ) = out := hk
  subst hk
  exact gj_vret (pc := 51) dX9_putAll_51 rfl
noncomputable def f_X9_putAll_0_b (x0 x1 : Int) (σ : zM) : Option ((zM) ⊕ zO) :=
  (zgf σ 942 x0).bind fun v1 =>
  if v1 ≤ 0 then
    (f_X9_putAll_51 σ).map (fun r => (.inr r))
  else
    (zgf σ 943 x0).bind fun v2 =>
    (zgf σ 942 x0).bind fun v3 =>
    (zga σ 101 v2 (zsub v3 1)).bind fun v4 =>
    zci (f_X9_binds v4 σ) fun v5 σ6 =>
    if v5 < x1 then
      (f_X9_putAll_51 σ6).map (fun r => (.inr r))
    else
      (zgf σ6 942 x0).bind fun v7 =>
      (zpf σ6 942 x0 (zsub v7 1)).bind fun σ8 =>
      (zgf σ8 943 x0).bind fun v9 =>
      (zgf σ8 942 x0).bind fun v10 =>
      (zga σ8 101 v9 v10).bind fun v11 =>
      zgd (zis σ8 10 x0) <|
      zcv (f_X9_put x0 v11 σ8) fun σ12 =>
      some (.inl σ12)
noncomputable def f_X9_putAll_0 (x0 x1 : Int) (σ : zM) : Option zO :=
  zloop (fun s : zM => f_X9_putAll_0_b x0 x1 s) σ
theorem w_X9_putAll_0_b {g : zG} {lv : Nat} {out : zO} (x0 x1 : Int) (σ : zM) {r : ((zM) ⊕ zO)} (h : f_X9_putAll_0_b x0 x1 σ = some r) (hk : (zKL (fun s : zM => Gj g MX9_putAll (lv + 1) 0 [(0, zr x0), (1, zi x1)] [] s out) (fun o : zO => o = out)) r) : Gj g MX9_putAll (lv + 1) 0 [(0, zr x0), (1, zi x1)] [] σ out := by
  revert h
  unfold f_X9_putAll_0_b
  refine zst_ (gj_aload_n 0 (pc := 0) dX9_putAll_0 rfl) ?_
  refine gb_get (pc := 1) fl942 dX9_putAll_1 q1924 (Or.inl rfl) (fun v1 => ?_)
  refine gb_if (gj_if_le 51 (pc := 4) dX9_putAll_4 (by decide)) ?_ ?_
  · refine zst_ (gj_sub [] rfl) ?_
    intro h
    obtain ⟨r0, h0, rfl⟩ := zmE h
    exact w_X9_putAll_51 σ h0 hk
  · refine zst_ (gj_aload_n 0 (pc := 7) dX9_putAll_7 rfl) ?_
    refine gb_get (pc := 8) fl943 dX9_putAll_8 q1925 (Or.inl rfl) (fun v2 => ?_)
    refine zst_ (gj_aload_n 0 (pc := 11) dX9_putAll_11 rfl) ?_
    refine gb_get (pc := 12) fl942 dX9_putAll_12 q1924 (Or.inl rfl) (fun v3 => ?_)
    refine zst_ (gj_iconst (pc := 15) dX9_putAll_15 (by decide)) ?_
    refine zst_ (gj_isub (pc := 16) dX9_putAll_16) ?_
    refine gb_iald (pc := 17) dX9_putAll_17 (fun v4 => ?_)
    refine gb_callI (pc := 18) (as := [zi v4]) (rest := []) (zCl.of (zLk_S (M := MX9_putAll) plX9_binds.1 rfl dX9_putAll_18 q2304 q2305 q127 q2306) plX9_binds (Nat.le_of_ble_eq_true rfl) (fun h => c_X9_binds h)) (fun v5 σ6 => ?_)
    refine zst_ (gj_iload_n 1 (pc := 21) dX9_putAll_21 rfl) ?_
    refine gb_if (gj_icmp_lt 51 (pc := 22) dX9_putAll_22 (by decide)) ?_ ?_
    · refine zst_ (gj_sub [] rfl) ?_
      intro h
      obtain ⟨r0, h0, rfl⟩ := zmE h
      exact w_X9_putAll_51 σ6 h0 hk
    · refine zst_ (gj_aload_n 0 (pc := 25) dX9_putAll_25 rfl) ?_
      refine zst_ (gj_dup (pc := 26) dX9_putAll_26 rfl) ?_
      refine gb_get (pc := 27) fl942 dX9_putAll_27 q1924 (Or.inl rfl) (fun v7 => ?_)
      refine zst_ (gj_iconst (pc := 30) dX9_putAll_30 (by decide)) ?_
      refine zst_ (gj_isub (pc := 31) dX9_putAll_31) ?_
      refine gb_put (pc := 32) fl942 fr942 dX9_putAll_32 q1924 (Or.inl rfl) (fun σ8 => ?_)
      refine zst_ (gj_aload_n 0 (pc := 35) dX9_putAll_35 rfl) ?_
      refine zst_ (gj_aload_n 0 (pc := 36) dX9_putAll_36 rfl) ?_
      refine gb_get (pc := 37) fl943 dX9_putAll_37 q1925 (Or.inl rfl) (fun v9 => ?_)
      refine zst_ (gj_aload_n 0 (pc := 40) dX9_putAll_40 rfl) ?_
      refine gb_get (pc := 41) fl942 dX9_putAll_41 q1924 (Or.inl rfl) (fun v10 => ?_)
      refine gb_iald (pc := 44) dX9_putAll_44 (fun v11 => ?_)
      refine gb_gd (fun hb => ?_)
      refine gb_callV (pc := 45) (as := [zr x0, zi v11]) (rest := []) (zCl.of (zLk_V (M := MX9_putAll) (ci := 9) (r := (RX9, TX9, 84)) plX9_put.1 rfl rfl (zisE hb).1 (zisE hb).2 dX9_putAll_45 q2315 q2317 qs82 q2318) plX9_put (Nat.le_of_ble_eq_true rfl) (fun h => c_X9_put h)) (fun σ12 => ?_)
      refine zst_ (gj_goto 0 (pc := 48) dX9_putAll_48 (by decide)) ?_
      intro h
      cases h
      exact hk
theorem w_X9_putAll_0 {g : zG} {lv : Nat} {out : zO} (x0 x1 : Int) (σ : zM) {r : zO} (h : f_X9_putAll_0 x0 x1 σ = some r) (hk : (fun o : zO => o = out) r) : Gj g MX9_putAll (lv + 1) 0 [(0, zr x0), (1, zi x1)] [] σ out :=
  gj_loop (P := (fun s : zM => Gj g MX9_putAll (lv + 1) 0 [(0, zr x0), (1, zi x1)] [] s out)) (fun s x hb hx => w_X9_putAll_0_b x0 x1 s hb hx) h hk
noncomputable def f_X9_putAll (x0 x1 : Int) (σ : zM) : Option zO :=
  f_X9_putAll_0 x0 x1 σ
theorem c_X9_putAll {g : zG} {lv : Nat} {x0 x1 : Int} {σ : zM} {out : zO} (h : f_X9_putAll x0 x1 σ = some out) : Cj g (lv + 1) MX9_putAll [zr x0, zi x1] σ out := by
  refine cj_go (ls := [(0, zr x0), (1, zi x1)]) (by decide) (Nat.le_of_ble_eq_true rfl) rfl (zgen h (fun r hk => ?_))
  unfold f_X9_putAll
  exact fun h => w_X9_putAll_0 x0 x1 σ h hk
theorem q2299 : (Jvm.Cond.code ({ cls := "LassoFinderModel", name := "wholeFormula", desc := "()Z" } : Jvm.MethodName) prog_22_method_47_code (5 : Nat) (Option.some Jvm.ClassFile.FieldType.boolean)) ∈ lw_all := lw_g (lw_at lw_m10 39 rfl) rfl
theorem q2300 : (Jvm.Cond.methodLink "LassoFinderModel" (397 : Nat) ({ cls := "LassoFinderModel", name := "push", desc := "(I)Z" } : Jvm.MethodName)) ∈ lw_all := lw_g (lw_at lw_m10 40 rfl) rfl
theorem q2302 : (Jvm.Cond.instanceMethod ({ cls := "LassoFinderModel", name := "push", desc := "(I)Z" } : Jvm.MethodName)) ∈ lw_all := lw_g (lw_at lw_m10 42 rfl) rfl
theorem q2311 : (Jvm.Cond.methodLink "LassoFinderModel" (400 : Nat) ({ cls := "LassoFinderModel", name := "atom", desc := "()Z" } : Jvm.MethodName)) ∈ lw_all := lw_g (lw_at lw_m10 51 rfl) rfl
theorem q2313 : (Jvm.Cond.instanceMethod ({ cls := "LassoFinderModel", name := "atom", desc := "()Z" } : Jvm.MethodName)) ∈ lw_all := lw_g (lw_at lw_m10 53 rfl) rfl
theorem q2319 : (Jvm.Cond.methodLink "LassoFinderModel" (403 : Nat) ({ cls := "LassoFinderModel", name := "putAll", desc := "(I)V" } : Jvm.MethodName)) ∈ lw_all := lw_g (lw_at lw_m10 59 rfl) rfl
theorem q2321 : (Jvm.Cond.instanceMethod ({ cls := "LassoFinderModel", name := "putAll", desc := "(I)V" } : Jvm.MethodName)) ∈ lw_all := lw_g (lw_at lw_m10 61 rfl) rfl
abbrev cX9_wholeFormula : ByteArray := prog_22_method_47_code
def yX9_wholeFormula : MethodName := ⟨RX9, "wholeFormula", "()Z"⟩
theorem dX9_wholeFormula_0 : decode cX9_wholeFormula 0 = .ok (.aload_n 0, 1) := by decide +kernel
theorem dX9_wholeFormula_1 : decode cX9_wholeFormula 1 = .ok (.iconst 0, 1) := by decide +kernel
theorem dX9_wholeFormula_2 : decode cX9_wholeFormula 2 = .ok (.putfield 203, 3) := by decide +kernel
theorem dX9_wholeFormula_5 : decode cX9_wholeFormula 5 = .ok (.aload_n 0, 1) := by decide +kernel
theorem dX9_wholeFormula_6 : decode cX9_wholeFormula 6 = .ok (.iconst (-1), 1) := by decide +kernel
theorem dX9_wholeFormula_7 : decode cX9_wholeFormula 7 = .ok (.putfield 206, 3) := by decide +kernel
theorem dX9_wholeFormula_10 : decode cX9_wholeFormula 10 = .ok (.aload_n 0, 1) := by decide +kernel
theorem dX9_wholeFormula_11 : decode cX9_wholeFormula 11 = .ok (.aload_n 0, 1) := by decide +kernel
theorem dX9_wholeFormula_12 : decode cX9_wholeFormula 12 = .ok (.getfield 367, 3) := by decide +kernel
theorem dX9_wholeFormula_15 : decode cX9_wholeFormula 15 = .ok (.putfield 217, 3) := by decide +kernel
theorem dX9_wholeFormula_18 : decode cX9_wholeFormula 18 = .ok (.aload_n 0, 1) := by decide +kernel
theorem dX9_wholeFormula_19 : decode cX9_wholeFormula 19 = .ok (.iconst 0, 1) := by decide +kernel
theorem dX9_wholeFormula_20 : decode cX9_wholeFormula 20 = .ok (.putfield 379, 3) := by decide +kernel
theorem dX9_wholeFormula_23 : decode cX9_wholeFormula 23 = .ok (.aload_n 0, 1) := by decide +kernel
theorem dX9_wholeFormula_24 : decode cX9_wholeFormula 24 = .ok (.iconst 0, 1) := by decide +kernel
theorem dX9_wholeFormula_25 : decode cX9_wholeFormula 25 = .ok (.putfield 376, 3) := by decide +kernel
theorem dX9_wholeFormula_28 : decode cX9_wholeFormula 28 = .ok (.aload_n 0, 1) := by decide +kernel
theorem dX9_wholeFormula_29 : decode cX9_wholeFormula 29 = .ok (.iconst 0, 1) := by decide +kernel
theorem dX9_wholeFormula_30 : decode cX9_wholeFormula 30 = .ok (.putfield 388, 3) := by decide +kernel
theorem dX9_wholeFormula_33 : decode cX9_wholeFormula 33 = .ok (.aload_n 0, 1) := by decide +kernel
theorem dX9_wholeFormula_34 : decode cX9_wholeFormula 34 = .ok (.iconst 0, 1) := by decide +kernel
theorem dX9_wholeFormula_35 : decode cX9_wholeFormula 35 = .ok (.putfield 391, 3) := by decide +kernel
theorem dX9_wholeFormula_38 : decode cX9_wholeFormula 38 = .ok (.aload_n 0, 1) := by decide +kernel
theorem dX9_wholeFormula_39 : decode cX9_wholeFormula 39 = .ok (.iconst 0, 1) := by decide +kernel
theorem dX9_wholeFormula_40 : decode cX9_wholeFormula 40 = .ok (.putfield 220, 3) := by decide +kernel
theorem dX9_wholeFormula_43 : decode cX9_wholeFormula 43 = .ok (.iconst 0, 1) := by decide +kernel
theorem dX9_wholeFormula_44 : decode cX9_wholeFormula 44 = .ok (.istore_n 1, 1) := by decide +kernel
theorem dX9_wholeFormula_45 : decode cX9_wholeFormula 45 = .ok (.iconst 1, 1) := by decide +kernel
theorem dX9_wholeFormula_46 : decode cX9_wholeFormula 46 = .ok (.istore_n 2, 1) := by decide +kernel
theorem dX9_wholeFormula_47 : decode cX9_wholeFormula 47 = .ok (.iload_n 2, 1) := by decide +kernel
theorem dX9_wholeFormula_48 : decode cX9_wholeFormula 48 = .ok (.ifCond .ne 14, 3) := by decide +kernel
theorem dX9_wholeFormula_51 : decode cX9_wholeFormula 51 = .ok (.aload_n 0, 1) := by decide +kernel
theorem dX9_wholeFormula_52 : decode cX9_wholeFormula 52 = .ok (.getfield 203, 3) := by decide +kernel
theorem dX9_wholeFormula_55 : decode cX9_wholeFormula 55 = .ok (.aload_n 0, 1) := by decide +kernel
theorem dX9_wholeFormula_56 : decode cX9_wholeFormula 56 = .ok (.getfield 200, 3) := by decide +kernel
theorem dX9_wholeFormula_59 : decode cX9_wholeFormula 59 = .ok (.if_icmp .ge 293, 3) := by decide +kernel
theorem dX9_wholeFormula_62 : decode cX9_wholeFormula 62 = .ok (.aload_n 0, 1) := by decide +kernel
theorem dX9_wholeFormula_63 : decode cX9_wholeFormula 63 = .ok (.invokevirtual 209, 3) := by decide +kernel
theorem dX9_wholeFormula_66 : decode cX9_wholeFormula 66 = .ok (.istore_n 3, 1) := by decide +kernel
theorem dX9_wholeFormula_67 : decode cX9_wholeFormula 67 = .ok (.iload_n 2, 1) := by decide +kernel
theorem dX9_wholeFormula_68 : decode cX9_wholeFormula 68 = .ok (.ifCond .eq 120, 3) := by decide +kernel
theorem dX9_wholeFormula_71 : decode cX9_wholeFormula 71 = .ok (.iload_n 3, 1) := by decide +kernel
theorem dX9_wholeFormula_72 : decode cX9_wholeFormula 72 = .ok (.bipush 33, 2) := by decide +kernel
theorem dX9_wholeFormula_74 : decode cX9_wholeFormula 74 = .ok (.if_icmp .ne 8, 3) := by decide +kernel
theorem dX9_wholeFormula_77 : decode cX9_wholeFormula 77 = .ok (.bipush 8, 2) := by decide +kernel
theorem dX9_wholeFormula_79 : decode cX9_wholeFormula 79 = .ok (.goto 37, 3) := by decide +kernel
theorem dX9_wholeFormula_82 : decode cX9_wholeFormula 82 = .ok (.iload_n 3, 1) := by decide +kernel
theorem dX9_wholeFormula_83 : decode cX9_wholeFormula 83 = .ok (.bipush 71, 2) := by decide +kernel
theorem dX9_wholeFormula_85 : decode cX9_wholeFormula 85 = .ok (.if_icmp .ne 8, 3) := by decide +kernel
theorem dX9_wholeFormula_88 : decode cX9_wholeFormula 88 = .ok (.bipush 14, 2) := by decide +kernel
theorem dX9_wholeFormula_90 : decode cX9_wholeFormula 90 = .ok (.goto 26, 3) := by decide +kernel
theorem dX9_wholeFormula_93 : decode cX9_wholeFormula 93 = .ok (.iload_n 3, 1) := by decide +kernel
theorem dX9_wholeFormula_94 : decode cX9_wholeFormula 94 = .ok (.bipush 70, 2) := by decide +kernel
theorem dX9_wholeFormula_96 : decode cX9_wholeFormula 96 = .ok (.if_icmp .ne 8, 3) := by decide +kernel
theorem dX9_wholeFormula_99 : decode cX9_wholeFormula 99 = .ok (.bipush 15, 2) := by decide +kernel
theorem dX9_wholeFormula_101 : decode cX9_wholeFormula 101 = .ok (.goto 15, 3) := by decide +kernel
theorem dX9_wholeFormula_104 : decode cX9_wholeFormula 104 = .ok (.iload_n 3, 1) := by decide +kernel
theorem dX9_wholeFormula_105 : decode cX9_wholeFormula 105 = .ok (.bipush 40, 2) := by decide +kernel
theorem dX9_wholeFormula_107 : decode cX9_wholeFormula 107 = .ok (.if_icmp .ne 8, 3) := by decide +kernel
theorem dX9_wholeFormula_110 : decode cX9_wholeFormula 110 = .ok (.bipush 16, 2) := by decide +kernel
theorem dX9_wholeFormula_112 : decode cX9_wholeFormula 112 = .ok (.goto 4, 3) := by decide +kernel
theorem dX9_wholeFormula_115 : decode cX9_wholeFormula 115 = .ok (.iconst (-1), 1) := by decide +kernel
theorem dX9_wholeFormula_116 : decode cX9_wholeFormula 116 = .ok (.istore 4, 2) := by decide +kernel
theorem dX9_wholeFormula_118 : decode cX9_wholeFormula 118 = .ok (.iload 4, 2) := by decide +kernel
theorem dX9_wholeFormula_120 : decode cX9_wholeFormula 120 = .ok (.ifCond .lt 32, 3) := by decide +kernel
theorem dX9_wholeFormula_123 : decode cX9_wholeFormula 123 = .ok (.aload_n 0, 1) := by decide +kernel
theorem dX9_wholeFormula_124 : decode cX9_wholeFormula 124 = .ok (.iload 4, 2) := by decide +kernel
theorem dX9_wholeFormula_126 : decode cX9_wholeFormula 126 = .ok (.invokevirtual 397, 3) := by decide +kernel
theorem dX9_wholeFormula_129 : decode cX9_wholeFormula 129 = .ok (.ifCond .ne 5, 3) := by decide +kernel
theorem dX9_wholeFormula_132 : decode cX9_wholeFormula 132 = .ok (.iconst 0, 1) := by decide +kernel
theorem dX9_wholeFormula_133 : decode cX9_wholeFormula 133 = .ok (.ireturn, 1) := by decide +kernel
theorem dX9_wholeFormula_134 : decode cX9_wholeFormula 134 = .ok (.iload_n 1, 1) := by decide +kernel
theorem dX9_wholeFormula_135 : decode cX9_wholeFormula 135 = .ok (.iload 4, 2) := by decide +kernel
theorem dX9_wholeFormula_137 : decode cX9_wholeFormula 137 = .ok (.bipush 16, 2) := by decide +kernel
theorem dX9_wholeFormula_139 : decode cX9_wholeFormula 139 = .ok (.if_icmp .ne 7, 3) := by decide +kernel
theorem dX9_wholeFormula_142 : decode cX9_wholeFormula 142 = .ok (.iconst 1, 1) := by decide +kernel
theorem dX9_wholeFormula_143 : decode cX9_wholeFormula 143 = .ok (.goto 4, 3) := by decide +kernel
theorem dX9_wholeFormula_146 : decode cX9_wholeFormula 146 = .ok (.iconst 0, 1) := by decide +kernel
theorem dX9_wholeFormula_147 : decode cX9_wholeFormula 147 = .ok (.iadd, 1) := by decide +kernel
theorem dX9_wholeFormula_148 : decode cX9_wholeFormula 148 = .ok (.istore_n 1, 1) := by decide +kernel
theorem dX9_wholeFormula_149 : decode cX9_wholeFormula 149 = .ok (.goto 36, 3) := by decide +kernel
theorem dX9_wholeFormula_152 : decode cX9_wholeFormula 152 = .ok (.iload_n 3, 1) := by decide +kernel
theorem dX9_wholeFormula_153 : decode cX9_wholeFormula 153 = .ok (.bipush 123, 2) := by decide +kernel
theorem dX9_wholeFormula_155 : decode cX9_wholeFormula 155 = .ok (.if_icmp .eq 14, 3) := by decide +kernel
theorem dX9_wholeFormula_158 : decode cX9_wholeFormula 158 = .ok (.iload_n 3, 1) := by decide +kernel
theorem dX9_wholeFormula_159 : decode cX9_wholeFormula 159 = .ok (.bipush 64, 2) := by decide +kernel
theorem dX9_wholeFormula_161 : decode cX9_wholeFormula 161 = .ok (.if_icmp .eq 8, 3) := by decide +kernel
theorem dX9_wholeFormula_164 : decode cX9_wholeFormula 164 = .ok (.aload_n 0, 1) := by decide +kernel
theorem dX9_wholeFormula_165 : decode cX9_wholeFormula 165 = .ok (.invokevirtual 213, 3) := by decide +kernel
theorem dX9_wholeFormula_168 : decode cX9_wholeFormula 168 = .ok (.ireturn, 1) := by decide +kernel
theorem dX9_wholeFormula_169 : decode cX9_wholeFormula 169 = .ok (.aload_n 0, 1) := by decide +kernel
theorem dX9_wholeFormula_170 : decode cX9_wholeFormula 170 = .ok (.invokevirtual 400, 3) := by decide +kernel
theorem dX9_wholeFormula_173 : decode cX9_wholeFormula 173 = .ok (.ifCond .ne 5, 3) := by decide +kernel
theorem dX9_wholeFormula_176 : decode cX9_wholeFormula 176 = .ok (.iconst 0, 1) := by decide +kernel
theorem dX9_wholeFormula_177 : decode cX9_wholeFormula 177 = .ok (.ireturn, 1) := by decide +kernel
theorem dX9_wholeFormula_178 : decode cX9_wholeFormula 178 = .ok (.aload_n 0, 1) := by decide +kernel
theorem dX9_wholeFormula_179 : decode cX9_wholeFormula 179 = .ok (.iconst 5, 1) := by decide +kernel
theorem dX9_wholeFormula_180 : decode cX9_wholeFormula 180 = .ok (.invokevirtual 403, 3) := by decide +kernel
theorem dX9_wholeFormula_183 : decode cX9_wholeFormula 183 = .ok (.iconst 0, 1) := by decide +kernel
theorem dX9_wholeFormula_184 : decode cX9_wholeFormula 184 = .ok (.istore_n 2, 1) := by decide +kernel
theorem dX9_wholeFormula_185 : decode cX9_wholeFormula 185 = .ok (.goto 164, 3) := by decide +kernel
theorem dX9_wholeFormula_188 : decode cX9_wholeFormula 188 = .ok (.iload_n 3, 1) := by decide +kernel
theorem dX9_wholeFormula_189 : decode cX9_wholeFormula 189 = .ok (.bipush 41, 2) := by decide +kernel
theorem dX9_wholeFormula_191 : decode cX9_wholeFormula 191 = .ok (.if_icmp .ne 48, 3) := by decide +kernel
theorem dX9_wholeFormula_194 : decode cX9_wholeFormula 194 = .ok (.iload_n 1, 1) := by decide +kernel
theorem dX9_wholeFormula_195 : decode cX9_wholeFormula 195 = .ok (.ifCond .ne 8, 3) := by decide +kernel
theorem dX9_wholeFormula_198 : decode cX9_wholeFormula 198 = .ok (.aload_n 0, 1) := by decide +kernel
theorem dX9_wholeFormula_199 : decode cX9_wholeFormula 199 = .ok (.invokevirtual 213, 3) := by decide +kernel
theorem dX9_wholeFormula_202 : decode cX9_wholeFormula 202 = .ok (.ireturn, 1) := by decide +kernel
theorem dX9_wholeFormula_203 : decode cX9_wholeFormula 203 = .ok (.aload_n 0, 1) := by decide +kernel
theorem dX9_wholeFormula_204 : decode cX9_wholeFormula 204 = .ok (.iconst 1, 1) := by decide +kernel
theorem dX9_wholeFormula_205 : decode cX9_wholeFormula 205 = .ok (.invokevirtual 403, 3) := by decide +kernel
theorem dX9_wholeFormula_208 : decode cX9_wholeFormula 208 = .ok (.aload_n 0, 1) := by decide +kernel
theorem dX9_wholeFormula_209 : decode cX9_wholeFormula 209 = .ok (.dup, 1) := by decide +kernel
theorem dX9_wholeFormula_210 : decode cX9_wholeFormula 210 = .ok (.getfield 220, 3) := by decide +kernel
theorem dX9_wholeFormula_213 : decode cX9_wholeFormula 213 = .ok (.iconst 1, 1) := by decide +kernel
theorem dX9_wholeFormula_214 : decode cX9_wholeFormula 214 = .ok (.isub, 1) := by decide +kernel
theorem dX9_wholeFormula_215 : decode cX9_wholeFormula 215 = .ok (.putfield 220, 3) := by decide +kernel
theorem dX9_wholeFormula_218 : decode cX9_wholeFormula 218 = .ok (.iinc 1 (-1), 3) := by decide +kernel
theorem dX9_wholeFormula_221 : decode cX9_wholeFormula 221 = .ok (.aload_n 0, 1) := by decide +kernel
theorem dX9_wholeFormula_222 : decode cX9_wholeFormula 222 = .ok (.dup, 1) := by decide +kernel
theorem dX9_wholeFormula_223 : decode cX9_wholeFormula 223 = .ok (.getfield 203, 3) := by decide +kernel
theorem dX9_wholeFormula_226 : decode cX9_wholeFormula 226 = .ok (.iconst 1, 1) := by decide +kernel
theorem dX9_wholeFormula_227 : decode cX9_wholeFormula 227 = .ok (.iadd, 1) := by decide +kernel
theorem dX9_wholeFormula_228 : decode cX9_wholeFormula 228 = .ok (.putfield 203, 3) := by decide +kernel
theorem dX9_wholeFormula_231 : decode cX9_wholeFormula 231 = .ok (.aload_n 0, 1) := by decide +kernel
theorem dX9_wholeFormula_232 : decode cX9_wholeFormula 232 = .ok (.iconst 5, 1) := by decide +kernel
theorem dX9_wholeFormula_233 : decode cX9_wholeFormula 233 = .ok (.invokevirtual 403, 3) := by decide +kernel
theorem dX9_wholeFormula_236 : decode cX9_wholeFormula 236 = .ok (.goto 113, 3) := by decide +kernel
theorem dX9_wholeFormula_239 : decode cX9_wholeFormula 239 = .ok (.iload_n 3, 1) := by decide +kernel
theorem dX9_wholeFormula_240 : decode cX9_wholeFormula 240 = .ok (.bipush 62, 2) := by decide +kernel
theorem dX9_wholeFormula_242 : decode cX9_wholeFormula 242 = .ok (.if_icmp .ne 8, 3) := by decide +kernel
theorem dX9_wholeFormula_245 : decode cX9_wholeFormula 245 = .ok (.bipush 11, 2) := by decide +kernel
theorem dX9_wholeFormula_247 : decode cX9_wholeFormula 247 = .ok (.goto 48, 3) := by decide +kernel
theorem dX9_wholeFormula_250 : decode cX9_wholeFormula 250 = .ok (.iload_n 3, 1) := by decide +kernel
theorem dX9_wholeFormula_251 : decode cX9_wholeFormula 251 = .ok (.bipush 124, 2) := by decide +kernel
theorem dX9_wholeFormula_253 : decode cX9_wholeFormula 253 = .ok (.if_icmp .ne 8, 3) := by decide +kernel
theorem dX9_wholeFormula_256 : decode cX9_wholeFormula 256 = .ok (.bipush 10, 2) := by decide +kernel
theorem dX9_wholeFormula_258 : decode cX9_wholeFormula 258 = .ok (.goto 37, 3) := by decide +kernel
theorem dX9_wholeFormula_261 : decode cX9_wholeFormula 261 = .ok (.iload_n 3, 1) := by decide +kernel
theorem dX9_wholeFormula_262 : decode cX9_wholeFormula 262 = .ok (.bipush 38, 2) := by decide +kernel
theorem dX9_wholeFormula_264 : decode cX9_wholeFormula 264 = .ok (.if_icmp .ne 8, 3) := by decide +kernel
theorem dX9_wholeFormula_267 : decode cX9_wholeFormula 267 = .ok (.bipush 9, 2) := by decide +kernel
theorem dX9_wholeFormula_269 : decode cX9_wholeFormula 269 = .ok (.goto 26, 3) := by decide +kernel
theorem dX9_wholeFormula_272 : decode cX9_wholeFormula 272 = .ok (.iload_n 3, 1) := by decide +kernel
theorem dX9_wholeFormula_273 : decode cX9_wholeFormula 273 = .ok (.bipush 85, 2) := by decide +kernel
theorem dX9_wholeFormula_275 : decode cX9_wholeFormula 275 = .ok (.if_icmp .ne 8, 3) := by decide +kernel
theorem dX9_wholeFormula_278 : decode cX9_wholeFormula 278 = .ok (.bipush 12, 2) := by decide +kernel
theorem dX9_wholeFormula_280 : decode cX9_wholeFormula 280 = .ok (.goto 15, 3) := by decide +kernel
theorem dX9_wholeFormula_283 : decode cX9_wholeFormula 283 = .ok (.iload_n 3, 1) := by decide +kernel
theorem dX9_wholeFormula_284 : decode cX9_wholeFormula 284 = .ok (.bipush 82, 2) := by decide +kernel
theorem dX9_wholeFormula_286 : decode cX9_wholeFormula 286 = .ok (.if_icmp .ne 8, 3) := by decide +kernel
theorem dX9_wholeFormula_289 : decode cX9_wholeFormula 289 = .ok (.bipush 13, 2) := by decide +kernel
theorem dX9_wholeFormula_291 : decode cX9_wholeFormula 291 = .ok (.goto 4, 3) := by decide +kernel
theorem dX9_wholeFormula_294 : decode cX9_wholeFormula 294 = .ok (.iconst (-1), 1) := by decide +kernel
theorem dX9_wholeFormula_295 : decode cX9_wholeFormula 295 = .ok (.istore 4, 2) := by decide +kernel
theorem dX9_wholeFormula_297 : decode cX9_wholeFormula 297 = .ok (.iload 4, 2) := by decide +kernel
theorem dX9_wholeFormula_299 : decode cX9_wholeFormula 299 = .ok (.ifCond .ge 8, 3) := by decide +kernel
theorem dX9_wholeFormula_302 : decode cX9_wholeFormula 302 = .ok (.aload_n 0, 1) := by decide +kernel
theorem dX9_wholeFormula_303 : decode cX9_wholeFormula 303 = .ok (.invokevirtual 213, 3) := by decide +kernel
theorem dX9_wholeFormula_306 : decode cX9_wholeFormula 306 = .ok (.ireturn, 1) := by decide +kernel
theorem dX9_wholeFormula_307 : decode cX9_wholeFormula 307 = .ok (.iload 4, 2) := by decide +kernel
theorem dX9_wholeFormula_309 : decode cX9_wholeFormula 309 = .ok (.invokestatic 382, 3) := by decide +kernel
theorem dX9_wholeFormula_312 : decode cX9_wholeFormula 312 = .ok (.iconst 4, 1) := by decide +kernel
theorem dX9_wholeFormula_313 : decode cX9_wholeFormula 313 = .ok (.if_icmp .ge 23, 3) := by decide +kernel
theorem dX9_wholeFormula_316 : decode cX9_wholeFormula 316 = .ok (.aload_n 0, 1) := by decide +kernel
theorem dX9_wholeFormula_317 : decode cX9_wholeFormula 317 = .ok (.iload 4, 2) := by decide +kernel
theorem dX9_wholeFormula_319 : decode cX9_wholeFormula 319 = .ok (.bipush 11, 2) := by decide +kernel
theorem dX9_wholeFormula_321 : decode cX9_wholeFormula 321 = .ok (.if_icmp .ne 7, 3) := by decide +kernel
theorem dX9_wholeFormula_324 : decode cX9_wholeFormula 324 = .ok (.iconst 2, 1) := by decide +kernel
theorem dX9_wholeFormula_325 : decode cX9_wholeFormula 325 = .ok (.goto 8, 3) := by decide +kernel
theorem dX9_wholeFormula_328 : decode cX9_wholeFormula 328 = .ok (.iload 4, 2) := by decide +kernel
theorem dX9_wholeFormula_330 : decode cX9_wholeFormula 330 = .ok (.invokestatic 382, 3) := by decide +kernel
theorem dX9_wholeFormula_333 : decode cX9_wholeFormula 333 = .ok (.invokevirtual 403, 3) := by decide +kernel
theorem dX9_wholeFormula_336 : decode cX9_wholeFormula 336 = .ok (.aload_n 0, 1) := by decide +kernel
theorem dX9_wholeFormula_337 : decode cX9_wholeFormula 337 = .ok (.iload 4, 2) := by decide +kernel
theorem dX9_wholeFormula_339 : decode cX9_wholeFormula 339 = .ok (.invokevirtual 397, 3) := by decide +kernel
theorem dX9_wholeFormula_342 : decode cX9_wholeFormula 342 = .ok (.ifCond .ne 5, 3) := by decide +kernel
theorem dX9_wholeFormula_345 : decode cX9_wholeFormula 345 = .ok (.iconst 0, 1) := by decide +kernel
theorem dX9_wholeFormula_346 : decode cX9_wholeFormula 346 = .ok (.ireturn, 1) := by decide +kernel
theorem dX9_wholeFormula_347 : decode cX9_wholeFormula 347 = .ok (.iconst 1, 1) := by decide +kernel
theorem dX9_wholeFormula_348 : decode cX9_wholeFormula 348 = .ok (.istore_n 2, 1) := by decide +kernel
theorem dX9_wholeFormula_349 : decode cX9_wholeFormula 349 = .ok (.goto (-302), 3) := by decide +kernel
theorem dX9_wholeFormula_352 : decode cX9_wholeFormula 352 = .ok (.iload_n 1, 1) := by decide +kernel
theorem dX9_wholeFormula_353 : decode cX9_wholeFormula 353 = .ok (.ifCond .le 8, 3) := by decide +kernel
theorem dX9_wholeFormula_356 : decode cX9_wholeFormula 356 = .ok (.aload_n 0, 1) := by decide +kernel
theorem dX9_wholeFormula_357 : decode cX9_wholeFormula 357 = .ok (.invokevirtual 213, 3) := by decide +kernel
theorem dX9_wholeFormula_360 : decode cX9_wholeFormula 360 = .ok (.ireturn, 1) := by decide +kernel
theorem dX9_wholeFormula_361 : decode cX9_wholeFormula 361 = .ok (.aload_n 0, 1) := by decide +kernel
theorem dX9_wholeFormula_362 : decode cX9_wholeFormula 362 = .ok (.iconst 1, 1) := by decide +kernel
theorem dX9_wholeFormula_363 : decode cX9_wholeFormula 363 = .ok (.invokevirtual 403, 3) := by decide +kernel
theorem dX9_wholeFormula_366 : decode cX9_wholeFormula 366 = .ok (.iconst 1, 1) := by decide +kernel
theorem dX9_wholeFormula_367 : decode cX9_wholeFormula 367 = .ok (.ireturn, 1) := by decide +kernel
abbrev MX9_wholeFormula : zT := (yX9_wholeFormula, cX9_wholeFormula, 5, (Option.some Jvm.ClassFile.FieldType.boolean), [])
theorem plX9_wholeFormula : zplain MX9_wholeFormula 0 ∧ (zcodeW MX9_wholeFormula ∈ lw_all ∧ Cond.initialized MX9_wholeFormula.1.cls ∈ lw_all) := ⟨⟨by decide +kernel, by decide +kernel⟩, q2299, q127⟩
noncomputable def f_X9_wholeFormula_349 (x0 x1 x2 : Int) (σ : zM) : Option ((Int × Int × zM) ⊕ zO) :=
  some (.inl (x1, x2, σ))
theorem w_X9_wholeFormula_349 {g : zG} {lv : Nat} {out : zO} (x0 x1 x2 : Int) (σ : zM) {r : ((Int × Int × zM) ⊕ zO)} (h : f_X9_wholeFormula_349 x0 x1 x2 σ = some r) (hk : (zKL (fun s : Int × Int × zM => Gj g MX9_wholeFormula (lv + 4) 47 [(0, zr x0), (1, zi s.1), (2, zi s.2.1)] [] s.2.2 out) (fun o : zO => o = out)) r) : Gj g MX9_wholeFormula (lv + 4) 349 [(0, zr x0), (1, zi x1), (2, zi x2)] [] σ out := by
  revert h
  unfold f_X9_wholeFormula_349
  refine zst_ (gj_goto 47 (pc := 349) dX9_wholeFormula_349 (by decide)) ?_
  intro h
  cases h
  exact hk
noncomputable def f_X9_wholeFormula_345 (σ : zM) : Option zO :=
  zgd (z01 0) <|
  some (0, zi 0, σ)
theorem w_X9_wholeFormula_345 {g : zG} {lv : Nat} {out : zO} (σ : zM) {r : zO} (h : f_X9_wholeFormula_345  σ = some r) (hk : (fun o : zO => o = out) r) : Gj g MX9_wholeFormula (lv + 4) 345 [] [] σ out := by
  revert h
  unfold f_X9_wholeFormula_345
  refine zst_ (gj_iconst (pc := 345) dX9_wholeFormula_345 (by decide)) ?_
  refine gb_gd (fun hb => ?_)
  intro h
  cases h
  have hk : (0, zi 0, σ) = out := hk
  subst hk
  exact gj_ret (pc := 346) (t := .boolean) dX9_wholeFormula_346 rfl ⟨rfl, rfl⟩ (fun _ => z01E hb)
noncomputable def f_X9_wholeFormula_336 (x0 x1 x4 : Int) (σ : zM) : Option ((Int × Int × zM) ⊕ zO) :=
  zgd (zis σ 10 x0) <|
  zci (f_X9_push x0 x4 σ) fun v1 σ2 =>
  if v1 ≠ 0 then
    f_X9_wholeFormula_349 x0 x1 1 σ2
  else
    (f_X9_wholeFormula_345 σ2).map (fun r => (.inr r))
theorem w_X9_wholeFormula_336 {g : zG} {lv : Nat} {out : zO} (x0 x1 x4 : Int) (σ : zM) {r : ((Int × Int × zM) ⊕ zO)} (h : f_X9_wholeFormula_336 x0 x1 x4 σ = some r) (hk : (zKL (fun s : Int × Int × zM => Gj g MX9_wholeFormula (lv + 4) 47 [(0, zr x0), (1, zi s.1), (2, zi s.2.1)] [] s.2.2 out) (fun o : zO => o = out)) r) : Gj g MX9_wholeFormula (lv + 4) 336 [(0, zr x0), (1, zi x1), (4, zi x4)] [] σ out := by
  revert h
  unfold f_X9_wholeFormula_336
  refine zst_ (gj_aload_n 0 (pc := 336) dX9_wholeFormula_336 rfl) ?_
  refine zst_ (gj_iload 2 (pc := 337) dX9_wholeFormula_337 rfl) ?_
  refine gb_gd (fun hb => ?_)
  refine gb_callI (pc := 339) (as := [zr x0, zi x4]) (rest := []) (zCl.of (zLk_V (M := MX9_wholeFormula) (ci := 9) (r := (RX9, TX9, 84)) plX9_push.1 rfl rfl (zisE hb).1 (zisE hb).2 dX9_wholeFormula_339 q2300 q2302 qs79 q2303) plX9_push (Nat.le_of_ble_eq_true rfl) (fun h => c_X9_push h)) (fun v1 σ2 => ?_)
  refine gb_if (gj_if_ne 347 (pc := 342) dX9_wholeFormula_342 (by decide)) ?_ ?_
  · refine zst_ (gj_iconst (pc := 347) dX9_wholeFormula_347 (by decide)) ?_
    refine zst_ (gj_istore_n (pc := 348) (ls' := [(2, zi 1), (0, zr x0), (1, zi x1), (4, zi x4)]) dX9_wholeFormula_348 (by decide) rfl) ?_
    refine zst_ (gj_sub [1, 2, 0] rfl) ?_
    exact fun h => w_X9_wholeFormula_349 x0 x1 1 σ2 h hk
  · refine zst_ (gj_sub [] rfl) ?_
    intro h
    obtain ⟨r0, h0, rfl⟩ := zmE h
    exact w_X9_wholeFormula_345 σ2 h0 hk
noncomputable def f_X9_wholeFormula_333 (x0 x1 x4 t0 t1 : Int) (σ : zM) : Option ((Int × Int × zM) ⊕ zO) :=
  zgd (zis σ 10 t1) <|
  zcv (f_X9_putAll t1 t0 σ) fun σ1 =>
  f_X9_wholeFormula_336 x0 x1 x4 σ1
theorem w_X9_wholeFormula_333 {g : zG} {lv : Nat} {out : zO} (x0 x1 x4 t0 t1 : Int) (σ : zM) {r : ((Int × Int × zM) ⊕ zO)} (h : f_X9_wholeFormula_333 x0 x1 x4 t0 t1 σ = some r) (hk : (zKL (fun s : Int × Int × zM => Gj g MX9_wholeFormula (lv + 4) 47 [(0, zr x0), (1, zi s.1), (2, zi s.2.1)] [] s.2.2 out) (fun o : zO => o = out)) r) : Gj g MX9_wholeFormula (lv + 4) 333 [(0, zr x0), (1, zi x1), (4, zi x4)] [zi t0, zr t1] σ out := by
  revert h
  unfold f_X9_wholeFormula_333
  refine gb_gd (fun hb => ?_)
  refine gb_callV (pc := 333) (as := [zr t1, zi t0]) (rest := []) (zCl.of (zLk_V (M := MX9_wholeFormula) (ci := 9) (r := (RX9, TX9, 84)) plX9_putAll.1 rfl rfl (zisE hb).1 (zisE hb).2 dX9_wholeFormula_333 q2319 q2321 qs83 q2322) plX9_putAll (Nat.le_of_ble_eq_true rfl) (fun h => c_X9_putAll h)) (fun σ1 => ?_)
  exact fun h => w_X9_wholeFormula_336 x0 x1 x4 σ1 h hk
noncomputable def f_X9_wholeFormula_302 (x0 : Int) (σ : zM) : Option zO :=
  zgd (zis σ 10 x0) <|
  zci (f_X9_fail x0 σ) fun v1 σ2 =>
  zgd (z01 v1) <|
  some (0, zi v1, σ2)
theorem w_X9_wholeFormula_302 {g : zG} {lv : Nat} {out : zO} (x0 : Int) (σ : zM) {r : zO} (h : f_X9_wholeFormula_302 x0 σ = some r) (hk : (fun o : zO => o = out) r) : Gj g MX9_wholeFormula (lv + 4) 302 [(0, zr x0)] [] σ out := by
  revert h
  unfold f_X9_wholeFormula_302
  refine zst_ (gj_aload_n 0 (pc := 302) dX9_wholeFormula_302 rfl) ?_
  refine gb_gd (fun hb => ?_)
  refine gb_callI (pc := 303) (as := [zr x0]) (rest := []) (zCl.of (zLk_V (M := MX9_wholeFormula) (ci := 9) (r := (RX9, TX9, 84)) plX9_fail.1 rfl rfl (zisE hb).1 (zisE hb).2 dX9_wholeFormula_303 q2166 q2168 qs49 q2169) plX9_fail (Nat.le_of_ble_eq_true rfl) (fun h => c_X9_fail h)) (fun v1 σ2 => ?_)
  refine gb_gd (fun hb => ?_)
  intro h
  cases h
  have hk : (0, zi v1, σ2) = out := hk
  subst hk
  exact gj_ret (pc := 306) (t := .boolean) dX9_wholeFormula_306 rfl ⟨rfl, rfl⟩ (fun _ => z01E hb)
noncomputable def f_X9_wholeFormula_295 (x0 x1 t0 : Int) (σ : zM) : Option ((Int × Int × zM) ⊕ zO) :=
  if 0 ≤ t0 then
    zci (f_X9_binds t0 σ) fun v1 σ2 =>
    if 4 ≤ v1 then
      f_X9_wholeFormula_336 x0 x1 t0 σ2
    else
      if t0 ≠ 11 then
        zci (f_X9_binds t0 σ2) fun v3 σ4 =>
        f_X9_wholeFormula_333 x0 x1 t0 v3 x0 σ4
      else
        f_X9_wholeFormula_333 x0 x1 t0 2 x0 σ2
  else
    (f_X9_wholeFormula_302 x0 σ).map (fun r => (.inr r))
theorem w_X9_wholeFormula_295 {g : zG} {lv : Nat} {out : zO} (x0 x1 t0 : Int) (σ : zM) {r : ((Int × Int × zM) ⊕ zO)} (h : f_X9_wholeFormula_295 x0 x1 t0 σ = some r) (hk : (zKL (fun s : Int × Int × zM => Gj g MX9_wholeFormula (lv + 4) 47 [(0, zr x0), (1, zi s.1), (2, zi s.2.1)] [] s.2.2 out) (fun o : zO => o = out)) r) : Gj g MX9_wholeFormula (lv + 4) 295 [(0, zr x0), (1, zi x1)] [zi t0] σ out := by
  revert h
  unfold f_X9_wholeFormula_295
  refine zst_ (gj_istore (pc := 295) (ls' := [(4, zi t0), (0, zr x0), (1, zi x1)]) dX9_wholeFormula_295 (by decide) rfl) ?_
  refine zst_ (gj_iload 0 (pc := 297) dX9_wholeFormula_297 rfl) ?_
  refine gb_if (gj_if_ge 307 (pc := 299) dX9_wholeFormula_299 (by decide)) ?_ ?_
  · refine zst_ (gj_iload 0 (pc := 307) dX9_wholeFormula_307 rfl) ?_
    refine gb_callI (pc := 309) (as := [zi t0]) (rest := []) (zCl.of (zLk_S (M := MX9_wholeFormula) plX9_binds.1 rfl dX9_wholeFormula_309 q2304 q2305 q127 q2306) plX9_binds (Nat.le_of_ble_eq_true rfl) (fun h => c_X9_binds h)) (fun v1 σ2 => ?_)
    refine zst_ (gj_iconst (pc := 312) dX9_wholeFormula_312 (by decide)) ?_
    refine gb_if (gj_icmp_ge 336 (pc := 313) dX9_wholeFormula_313 (by decide)) ?_ ?_
    · refine zst_ (gj_sub [1, 2, 0] rfl) ?_
      exact fun h => w_X9_wholeFormula_336 x0 x1 t0 σ2 h hk
    · refine zst_ (gj_aload_n 1 (pc := 316) dX9_wholeFormula_316 rfl) ?_
      refine zst_ (gj_iload 0 (pc := 317) dX9_wholeFormula_317 rfl) ?_
      refine zst_ (gj_bipush (pc := 319) dX9_wholeFormula_319 ⟨rfl, by decide⟩) ?_
      refine gb_if (gj_icmp_ne 328 (pc := 321) dX9_wholeFormula_321 (by decide)) ?_ ?_
      · refine zst_ (gj_iload 0 (pc := 328) dX9_wholeFormula_328 rfl) ?_
        refine gb_callI (pc := 330) (as := [zi t0]) (rest := [zr x0]) (zCl.of (zLk_S (M := MX9_wholeFormula) plX9_binds.1 rfl dX9_wholeFormula_330 q2304 q2305 q127 q2306) plX9_binds (Nat.le_of_ble_eq_true rfl) (fun h => c_X9_binds h)) (fun v3 σ4 => ?_)
        refine zst_ (gj_sub [1, 2, 0] rfl) ?_
        exact fun h => w_X9_wholeFormula_333 x0 x1 t0 v3 x0 σ4 h hk
      · refine zst_ (gj_iconst (pc := 324) dX9_wholeFormula_324 (by decide)) ?_
        refine zst_ (gj_goto 333 (pc := 325) dX9_wholeFormula_325 (by decide)) ?_
        refine zst_ (gj_sub [1, 2, 0] rfl) ?_
        exact fun h => w_X9_wholeFormula_333 x0 x1 t0 2 x0 σ2 h hk
  · refine zst_ (gj_sub [1] rfl) ?_
    intro h
    obtain ⟨r0, h0, rfl⟩ := zmE h
    exact w_X9_wholeFormula_302 x0 σ h0 hk
noncomputable def f_X9_wholeFormula_198 (x0 : Int) (σ : zM) : Option zO :=
  zgd (zis σ 10 x0) <|
  zci (f_X9_fail x0 σ) fun v1 σ2 =>
  zgd (z01 v1) <|
  some (0, zi v1, σ2)
theorem w_X9_wholeFormula_198 {g : zG} {lv : Nat} {out : zO} (x0 : Int) (σ : zM) {r : zO} (h : f_X9_wholeFormula_198 x0 σ = some r) (hk : (fun o : zO => o = out) r) : Gj g MX9_wholeFormula (lv + 4) 198 [(0, zr x0)] [] σ out := by
  revert h
  unfold f_X9_wholeFormula_198
  refine zst_ (gj_aload_n 0 (pc := 198) dX9_wholeFormula_198 rfl) ?_
  refine gb_gd (fun hb => ?_)
  refine gb_callI (pc := 199) (as := [zr x0]) (rest := []) (zCl.of (zLk_V (M := MX9_wholeFormula) (ci := 9) (r := (RX9, TX9, 84)) plX9_fail.1 rfl rfl (zisE hb).1 (zisE hb).2 dX9_wholeFormula_199 q2166 q2168 qs49 q2169) plX9_fail (Nat.le_of_ble_eq_true rfl) (fun h => c_X9_fail h)) (fun v1 σ2 => ?_)
  refine gb_gd (fun hb => ?_)
  intro h
  cases h
  have hk : (0, zi v1, σ2) = out := hk
  subst hk
  exact gj_ret (pc := 202) (t := .boolean) dX9_wholeFormula_202 rfl ⟨rfl, rfl⟩ (fun _ => z01E hb)
noncomputable def f_X9_wholeFormula_185 (x0 x1 x2 : Int) (σ : zM) : Option ((Int × Int × zM) ⊕ zO) :=
  f_X9_wholeFormula_349 x0 x1 x2 σ
theorem w_X9_wholeFormula_185 {g : zG} {lv : Nat} {out : zO} (x0 x1 x2 : Int) (σ : zM) {r : ((Int × Int × zM) ⊕ zO)} (h : f_X9_wholeFormula_185 x0 x1 x2 σ = some r) (hk : (zKL (fun s : Int × Int × zM => Gj g MX9_wholeFormula (lv + 4) 47 [(0, zr x0), (1, zi s.1), (2, zi s.2.1)] [] s.2.2 out) (fun o : zO => o = out)) r) : Gj g MX9_wholeFormula (lv + 4) 185 [(0, zr x0), (1, zi x1), (2, zi x2)] [] σ out := by
  revert h
  unfold f_X9_wholeFormula_185
  refine zst_ (gj_goto 349 (pc := 185) dX9_wholeFormula_185 (by decide)) ?_
  exact fun h => w_X9_wholeFormula_349 x0 x1 x2 σ h hk
noncomputable def f_X9_wholeFormula_176 (σ : zM) : Option zO :=
  zgd (z01 0) <|
  some (0, zi 0, σ)
theorem w_X9_wholeFormula_176 {g : zG} {lv : Nat} {out : zO} (σ : zM) {r : zO} (h : f_X9_wholeFormula_176  σ = some r) (hk : (fun o : zO => o = out) r) : Gj g MX9_wholeFormula (lv + 4) 176 [] [] σ out := by
  revert h
  unfold f_X9_wholeFormula_176
  refine zst_ (gj_iconst (pc := 176) dX9_wholeFormula_176 (by decide)) ?_
  refine gb_gd (fun hb => ?_)
  intro h
  cases h
  have hk : (0, zi 0, σ) = out := hk
  subst hk
  exact gj_ret (pc := 177) (t := .boolean) dX9_wholeFormula_177 rfl ⟨rfl, rfl⟩ (fun _ => z01E hb)
noncomputable def f_X9_wholeFormula_169 (x0 x1 : Int) (σ : zM) : Option ((Int × Int × zM) ⊕ zO) :=
  zgd (zis σ 10 x0) <|
  zci (f_X9_atom x0 σ) fun v1 σ2 =>
  if v1 ≠ 0 then
    zgd (zis σ2 10 x0) <|
    zcv (f_X9_putAll x0 5 σ2) fun σ3 =>
    f_X9_wholeFormula_185 x0 x1 0 σ3
  else
    (f_X9_wholeFormula_176 σ2).map (fun r => (.inr r))
theorem w_X9_wholeFormula_169 {g : zG} {lv : Nat} {out : zO} (x0 x1 : Int) (σ : zM) {r : ((Int × Int × zM) ⊕ zO)} (h : f_X9_wholeFormula_169 x0 x1 σ = some r) (hk : (zKL (fun s : Int × Int × zM => Gj g MX9_wholeFormula (lv + 4) 47 [(0, zr x0), (1, zi s.1), (2, zi s.2.1)] [] s.2.2 out) (fun o : zO => o = out)) r) : Gj g MX9_wholeFormula (lv + 4) 169 [(0, zr x0), (1, zi x1)] [] σ out := by
  revert h
  unfold f_X9_wholeFormula_169
  refine zst_ (gj_aload_n 0 (pc := 169) dX9_wholeFormula_169 rfl) ?_
  refine gb_gd (fun hb => ?_)
  refine gb_callI (pc := 170) (as := [zr x0]) (rest := []) (zCl.of (zLk_V (M := MX9_wholeFormula) (ci := 9) (r := (RX9, TX9, 84)) plX9_atom.1 rfl rfl (zisE hb).1 (zisE hb).2 dX9_wholeFormula_170 q2311 q2313 qs81 q2314) plX9_atom (Nat.le_of_ble_eq_true rfl) (fun h => c_X9_atom h)) (fun v1 σ2 => ?_)
  refine gb_if (gj_if_ne 178 (pc := 173) dX9_wholeFormula_173 (by decide)) ?_ ?_
  · refine zst_ (gj_aload_n 0 (pc := 178) dX9_wholeFormula_178 rfl) ?_
    refine zst_ (gj_iconst (pc := 179) dX9_wholeFormula_179 (by decide)) ?_
    refine gb_gd (fun hb => ?_)
    refine gb_callV (pc := 180) (as := [zr x0, zi 5]) (rest := []) (zCl.of (zLk_V (M := MX9_wholeFormula) (ci := 9) (r := (RX9, TX9, 84)) plX9_putAll.1 rfl rfl (zisE hb).1 (zisE hb).2 dX9_wholeFormula_180 q2319 q2321 qs83 q2322) plX9_putAll (Nat.le_of_ble_eq_true rfl) (fun h => c_X9_putAll h)) (fun σ3 => ?_)
    refine zst_ (gj_iconst (pc := 183) dX9_wholeFormula_183 (by decide)) ?_
    refine zst_ (gj_istore_n (pc := 184) (ls' := [(2, zi 0), (0, zr x0), (1, zi x1)]) dX9_wholeFormula_184 (by decide) rfl) ?_
    refine zst_ (gj_sub [1, 2, 0] rfl) ?_
    exact fun h => w_X9_wholeFormula_185 x0 x1 0 σ3 h hk
  · refine zst_ (gj_sub [] rfl) ?_
    intro h
    obtain ⟨r0, h0, rfl⟩ := zmE h
    exact w_X9_wholeFormula_176 σ2 h0 hk
noncomputable def f_X9_wholeFormula_164 (x0 : Int) (σ : zM) : Option zO :=
  zgd (zis σ 10 x0) <|
  zci (f_X9_fail x0 σ) fun v1 σ2 =>
  zgd (z01 v1) <|
  some (0, zi v1, σ2)
theorem w_X9_wholeFormula_164 {g : zG} {lv : Nat} {out : zO} (x0 : Int) (σ : zM) {r : zO} (h : f_X9_wholeFormula_164 x0 σ = some r) (hk : (fun o : zO => o = out) r) : Gj g MX9_wholeFormula (lv + 4) 164 [(0, zr x0)] [] σ out := by
  revert h
  unfold f_X9_wholeFormula_164
  refine zst_ (gj_aload_n 0 (pc := 164) dX9_wholeFormula_164 rfl) ?_
  refine gb_gd (fun hb => ?_)
  refine gb_callI (pc := 165) (as := [zr x0]) (rest := []) (zCl.of (zLk_V (M := MX9_wholeFormula) (ci := 9) (r := (RX9, TX9, 84)) plX9_fail.1 rfl rfl (zisE hb).1 (zisE hb).2 dX9_wholeFormula_165 q2166 q2168 qs49 q2169) plX9_fail (Nat.le_of_ble_eq_true rfl) (fun h => c_X9_fail h)) (fun v1 σ2 => ?_)
  refine gb_gd (fun hb => ?_)
  intro h
  cases h
  have hk : (0, zi v1, σ2) = out := hk
  subst hk
  exact gj_ret (pc := 168) (t := .boolean) dX9_wholeFormula_168 rfl ⟨rfl, rfl⟩ (fun _ => z01E hb)
noncomputable def f_X9_wholeFormula_147 (x0 x2 t0 t1 : Int) (σ : zM) : Option ((Int × Int × zM) ⊕ zO) :=
  zlet ((zadd t1 t0)) fun y1 =>
  f_X9_wholeFormula_185 x0 y1 x2 σ
theorem w_X9_wholeFormula_147 {g : zG} {lv : Nat} {out : zO} (x0 x2 t0 t1 : Int) (σ : zM) {r : ((Int × Int × zM) ⊕ zO)} (h : f_X9_wholeFormula_147 x0 x2 t0 t1 σ = some r) (hk : (zKL (fun s : Int × Int × zM => Gj g MX9_wholeFormula (lv + 4) 47 [(0, zr x0), (1, zi s.1), (2, zi s.2.1)] [] s.2.2 out) (fun o : zO => o = out)) r) : Gj g MX9_wholeFormula (lv + 4) 147 [(0, zr x0), (2, zi x2)] [zi t0, zi t1] σ out := by
  revert h
  unfold f_X9_wholeFormula_147
  refine zst_ (gj_iadd (pc := 147) dX9_wholeFormula_147) ?_
  refine gb_let (fun y1 => ?_)
  refine zst_ (gj_istore_n (pc := 148) (ls' := [(1, zi y1), (0, zr x0), (2, zi x2)]) dX9_wholeFormula_148 (by decide) rfl) ?_
  refine zst_ (gj_goto 185 (pc := 149) dX9_wholeFormula_149 (by decide)) ?_
  refine zst_ (gj_sub [1, 0, 2] rfl) ?_
  exact fun h => w_X9_wholeFormula_185 x0 y1 x2 σ h hk
noncomputable def f_X9_wholeFormula_132 (σ : zM) : Option zO :=
  zgd (z01 0) <|
  some (0, zi 0, σ)
theorem w_X9_wholeFormula_132 {g : zG} {lv : Nat} {out : zO} (σ : zM) {r : zO} (h : f_X9_wholeFormula_132  σ = some r) (hk : (fun o : zO => o = out) r) : Gj g MX9_wholeFormula (lv + 4) 132 [] [] σ out := by
  revert h
  unfold f_X9_wholeFormula_132
  refine zst_ (gj_iconst (pc := 132) dX9_wholeFormula_132 (by decide)) ?_
  refine gb_gd (fun hb => ?_)
  intro h
  cases h
  have hk : (0, zi 0, σ) = out := hk
  subst hk
  exact gj_ret (pc := 133) (t := .boolean) dX9_wholeFormula_133 rfl ⟨rfl, rfl⟩ (fun _ => z01E hb)
noncomputable def f_X9_wholeFormula_116 (x0 x1 x2 x3 t0 : Int) (σ : zM) : Option ((Int × Int × zM) ⊕ zO) :=
  if t0 < 0 then
    if x3 = 123 then
      f_X9_wholeFormula_169 x0 x1 σ
    else
      if x3 = 64 then
        f_X9_wholeFormula_169 x0 x1 σ
      else
        (f_X9_wholeFormula_164 x0 σ).map (fun r => (.inr r))
  else
    zgd (zis σ 10 x0) <|
    zci (f_X9_push x0 t0 σ) fun v1 σ2 =>
    if v1 ≠ 0 then
      if t0 ≠ 16 then
        f_X9_wholeFormula_147 x0 x2 0 x1 σ2
      else
        f_X9_wholeFormula_147 x0 x2 1 x1 σ2
    else
      (f_X9_wholeFormula_132 σ2).map (fun r => (.inr r))
theorem w_X9_wholeFormula_116 {g : zG} {lv : Nat} {out : zO} (x0 x1 x2 x3 t0 : Int) (σ : zM) {r : ((Int × Int × zM) ⊕ zO)} (h : f_X9_wholeFormula_116 x0 x1 x2 x3 t0 σ = some r) (hk : (zKL (fun s : Int × Int × zM => Gj g MX9_wholeFormula (lv + 4) 47 [(0, zr x0), (1, zi s.1), (2, zi s.2.1)] [] s.2.2 out) (fun o : zO => o = out)) r) : Gj g MX9_wholeFormula (lv + 4) 116 [(0, zr x0), (1, zi x1), (2, zi x2), (3, zi x3)] [zi t0] σ out := by
  revert h
  unfold f_X9_wholeFormula_116
  refine zst_ (gj_istore (pc := 116) (ls' := [(4, zi t0), (0, zr x0), (1, zi x1), (2, zi x2), (3, zi x3)]) dX9_wholeFormula_116 (by decide) rfl) ?_
  refine zst_ (gj_iload 0 (pc := 118) dX9_wholeFormula_118 rfl) ?_
  refine gb_if (gj_if_lt 152 (pc := 120) dX9_wholeFormula_120 (by decide)) ?_ ?_
  · refine zst_ (gj_iload_n 4 (pc := 152) dX9_wholeFormula_152 rfl) ?_
    refine zst_ (gj_bipush (pc := 153) dX9_wholeFormula_153 ⟨rfl, by decide⟩) ?_
    refine gb_if (gj_icmp_eq 169 (pc := 155) dX9_wholeFormula_155 (by decide)) ?_ ?_
    · refine zst_ (gj_sub [1, 2] rfl) ?_
      exact fun h => w_X9_wholeFormula_169 x0 x1 σ h hk
    · refine zst_ (gj_iload_n 4 (pc := 158) dX9_wholeFormula_158 rfl) ?_
      refine zst_ (gj_bipush (pc := 159) dX9_wholeFormula_159 ⟨rfl, by decide⟩) ?_
      refine gb_if (gj_icmp_eq 169 (pc := 161) dX9_wholeFormula_161 (by decide)) ?_ ?_
      · refine zst_ (gj_sub [1, 2] rfl) ?_
        exact fun h => w_X9_wholeFormula_169 x0 x1 σ h hk
      · refine zst_ (gj_sub [1] rfl) ?_
        intro h
        obtain ⟨r0, h0, rfl⟩ := zmE h
        exact w_X9_wholeFormula_164 x0 σ h0 hk
  · refine zst_ (gj_aload_n 1 (pc := 123) dX9_wholeFormula_123 rfl) ?_
    refine zst_ (gj_iload 0 (pc := 124) dX9_wholeFormula_124 rfl) ?_
    refine gb_gd (fun hb => ?_)
    refine gb_callI (pc := 126) (as := [zr x0, zi t0]) (rest := []) (zCl.of (zLk_V (M := MX9_wholeFormula) (ci := 9) (r := (RX9, TX9, 84)) plX9_push.1 rfl rfl (zisE hb).1 (zisE hb).2 dX9_wholeFormula_126 q2300 q2302 qs79 q2303) plX9_push (Nat.le_of_ble_eq_true rfl) (fun h => c_X9_push h)) (fun v1 σ2 => ?_)
    refine gb_if (gj_if_ne 134 (pc := 129) dX9_wholeFormula_129 (by decide)) ?_ ?_
    · refine zst_ (gj_iload_n 2 (pc := 134) dX9_wholeFormula_134 rfl) ?_
      refine zst_ (gj_iload 0 (pc := 135) dX9_wholeFormula_135 rfl) ?_
      refine zst_ (gj_bipush (pc := 137) dX9_wholeFormula_137 ⟨rfl, by decide⟩) ?_
      refine gb_if (gj_icmp_ne 146 (pc := 139) dX9_wholeFormula_139 (by decide)) ?_ ?_
      · refine zst_ (gj_iconst (pc := 146) dX9_wholeFormula_146 (by decide)) ?_
        refine zst_ (gj_sub [1, 3] rfl) ?_
        exact fun h => w_X9_wholeFormula_147 x0 x2 0 x1 σ2 h hk
      · refine zst_ (gj_iconst (pc := 142) dX9_wholeFormula_142 (by decide)) ?_
        refine zst_ (gj_goto 147 (pc := 143) dX9_wholeFormula_143 (by decide)) ?_
        refine zst_ (gj_sub [1, 3] rfl) ?_
        exact fun h => w_X9_wholeFormula_147 x0 x2 1 x1 σ2 h hk
    · refine zst_ (gj_sub [] rfl) ?_
      intro h
      obtain ⟨r0, h0, rfl⟩ := zmE h
      exact w_X9_wholeFormula_132 σ2 h0 hk
noncomputable def f_X9_wholeFormula_62 (x0 x1 x2 : Int) (σ : zM) : Option ((Int × Int × zM) ⊕ zO) :=
  zgd (zis σ 10 x0) <|
  zci (f_X9_here x0 σ) fun v1 σ2 =>
  if x2 = 0 then
    if v1 ≠ 41 then
      if v1 ≠ 62 then
        if v1 ≠ 124 then
          if v1 ≠ 38 then
            if v1 ≠ 85 then
              if v1 ≠ 82 then
                f_X9_wholeFormula_295 x0 x1 (-1) σ2
              else
                f_X9_wholeFormula_295 x0 x1 13 σ2
            else
              f_X9_wholeFormula_295 x0 x1 12 σ2
          else
            f_X9_wholeFormula_295 x0 x1 9 σ2
        else
          f_X9_wholeFormula_295 x0 x1 10 σ2
      else
        f_X9_wholeFormula_295 x0 x1 11 σ2
    else
      if x1 ≠ 0 then
        zgd (zis σ2 10 x0) <|
        zcv (f_X9_putAll x0 1 σ2) fun σ3 =>
        (zgf σ3 942 x0).bind fun v4 =>
        (zpf σ3 942 x0 (zsub v4 1)).bind fun σ5 =>
        zlet (zadd x1 (-1)) fun y6 =>
        (zgf σ5 903 x0).bind fun v7 =>
        (zpf σ5 903 x0 (zadd v7 1)).bind fun σ8 =>
        zgd (zis σ8 10 x0) <|
        zcv (f_X9_putAll x0 5 σ8) fun σ9 =>
        f_X9_wholeFormula_349 x0 y6 x2 σ9
      else
        (f_X9_wholeFormula_198 x0 σ2).map (fun r => (.inr r))
  else
    if v1 ≠ 33 then
      if v1 ≠ 71 then
        if v1 ≠ 70 then
          if v1 ≠ 40 then
            f_X9_wholeFormula_116 x0 x1 x2 v1 (-1) σ2
          else
            f_X9_wholeFormula_116 x0 x1 x2 v1 16 σ2
        else
          f_X9_wholeFormula_116 x0 x1 x2 v1 15 σ2
      else
        f_X9_wholeFormula_116 x0 x1 x2 v1 14 σ2
    else
      f_X9_wholeFormula_116 x0 x1 x2 v1 8 σ2
theorem w_X9_wholeFormula_62 {g : zG} {lv : Nat} {out : zO} (x0 x1 x2 : Int) (σ : zM) {r : ((Int × Int × zM) ⊕ zO)} (h : f_X9_wholeFormula_62 x0 x1 x2 σ = some r) (hk : (zKL (fun s : Int × Int × zM => Gj g MX9_wholeFormula (lv + 4) 47 [(0, zr x0), (1, zi s.1), (2, zi s.2.1)] [] s.2.2 out) (fun o : zO => o = out)) r) : Gj g MX9_wholeFormula (lv + 4) 62 [(0, zr x0), (1, zi x1), (2, zi x2)] [] σ out := by
  revert h
  unfold f_X9_wholeFormula_62
  refine zst_ (gj_aload_n 0 (pc := 62) dX9_wholeFormula_62 rfl) ?_
  refine gb_gd (fun hb => ?_)
  refine gb_callI (pc := 63) (as := [zr x0]) (rest := []) (zCl.of (zLk_V (M := MX9_wholeFormula) (ci := 9) (r := (RX9, TX9, 84)) plX9_here.1 rfl rfl (zisE hb).1 (zisE hb).2 dX9_wholeFormula_63 q2154 q2156 qs46 q2157) plX9_here (Nat.le_of_ble_eq_true rfl) (fun h => c_X9_here h)) (fun v1 σ2 => ?_)
  refine zst_ (gj_istore_n (pc := 66) (ls' := [(3, zi v1), (0, zr x0), (1, zi x1), (2, zi x2)]) dX9_wholeFormula_66 (by decide) rfl) ?_
  refine zst_ (gj_iload_n 3 (pc := 67) dX9_wholeFormula_67 rfl) ?_
  refine gb_if (gj_if_eq 188 (pc := 68) dX9_wholeFormula_68 (by decide)) ?_ ?_
  · refine zst_ (gj_iload_n 0 (pc := 188) dX9_wholeFormula_188 rfl) ?_
    refine zst_ (gj_bipush (pc := 189) dX9_wholeFormula_189 ⟨rfl, by decide⟩) ?_
    refine gb_if (gj_icmp_ne 239 (pc := 191) dX9_wholeFormula_191 (by decide)) ?_ ?_
    · refine zst_ (gj_iload_n 0 (pc := 239) dX9_wholeFormula_239 rfl) ?_
      refine zst_ (gj_bipush (pc := 240) dX9_wholeFormula_240 ⟨rfl, by decide⟩) ?_
      refine gb_if (gj_icmp_ne 250 (pc := 242) dX9_wholeFormula_242 (by decide)) ?_ ?_
      · refine zst_ (gj_iload_n 0 (pc := 250) dX9_wholeFormula_250 rfl) ?_
        refine zst_ (gj_bipush (pc := 251) dX9_wholeFormula_251 ⟨rfl, by decide⟩) ?_
        refine gb_if (gj_icmp_ne 261 (pc := 253) dX9_wholeFormula_253 (by decide)) ?_ ?_
        · refine zst_ (gj_iload_n 0 (pc := 261) dX9_wholeFormula_261 rfl) ?_
          refine zst_ (gj_bipush (pc := 262) dX9_wholeFormula_262 ⟨rfl, by decide⟩) ?_
          refine gb_if (gj_icmp_ne 272 (pc := 264) dX9_wholeFormula_264 (by decide)) ?_ ?_
          · refine zst_ (gj_iload_n 0 (pc := 272) dX9_wholeFormula_272 rfl) ?_
            refine zst_ (gj_bipush (pc := 273) dX9_wholeFormula_273 ⟨rfl, by decide⟩) ?_
            refine gb_if (gj_icmp_ne 283 (pc := 275) dX9_wholeFormula_275 (by decide)) ?_ ?_
            · refine zst_ (gj_iload_n 0 (pc := 283) dX9_wholeFormula_283 rfl) ?_
              refine zst_ (gj_bipush (pc := 284) dX9_wholeFormula_284 ⟨rfl, by decide⟩) ?_
              refine gb_if (gj_icmp_ne 294 (pc := 286) dX9_wholeFormula_286 (by decide)) ?_ ?_
              · refine zst_ (gj_iconst (pc := 294) dX9_wholeFormula_294 (by decide)) ?_
                refine zst_ (gj_sub [1, 2] rfl) ?_
                exact fun h => w_X9_wholeFormula_295 x0 x1 (-1) σ2 h hk
              · refine zst_ (gj_bipush (pc := 289) dX9_wholeFormula_289 ⟨rfl, by decide⟩) ?_
                refine zst_ (gj_goto 295 (pc := 291) dX9_wholeFormula_291 (by decide)) ?_
                refine zst_ (gj_sub [1, 2] rfl) ?_
                exact fun h => w_X9_wholeFormula_295 x0 x1 13 σ2 h hk
            · refine zst_ (gj_bipush (pc := 278) dX9_wholeFormula_278 ⟨rfl, by decide⟩) ?_
              refine zst_ (gj_goto 295 (pc := 280) dX9_wholeFormula_280 (by decide)) ?_
              refine zst_ (gj_sub [1, 2] rfl) ?_
              exact fun h => w_X9_wholeFormula_295 x0 x1 12 σ2 h hk
          · refine zst_ (gj_bipush (pc := 267) dX9_wholeFormula_267 ⟨rfl, by decide⟩) ?_
            refine zst_ (gj_goto 295 (pc := 269) dX9_wholeFormula_269 (by decide)) ?_
            refine zst_ (gj_sub [1, 2] rfl) ?_
            exact fun h => w_X9_wholeFormula_295 x0 x1 9 σ2 h hk
        · refine zst_ (gj_bipush (pc := 256) dX9_wholeFormula_256 ⟨rfl, by decide⟩) ?_
          refine zst_ (gj_goto 295 (pc := 258) dX9_wholeFormula_258 (by decide)) ?_
          refine zst_ (gj_sub [1, 2] rfl) ?_
          exact fun h => w_X9_wholeFormula_295 x0 x1 10 σ2 h hk
      · refine zst_ (gj_bipush (pc := 245) dX9_wholeFormula_245 ⟨rfl, by decide⟩) ?_
        refine zst_ (gj_goto 295 (pc := 247) dX9_wholeFormula_247 (by decide)) ?_
        refine zst_ (gj_sub [1, 2] rfl) ?_
        exact fun h => w_X9_wholeFormula_295 x0 x1 11 σ2 h hk
    · refine zst_ (gj_iload_n 2 (pc := 194) dX9_wholeFormula_194 rfl) ?_
      refine gb_if (gj_if_ne 203 (pc := 195) dX9_wholeFormula_195 (by decide)) ?_ ?_
      · refine zst_ (gj_aload_n 1 (pc := 203) dX9_wholeFormula_203 rfl) ?_
        refine zst_ (gj_iconst (pc := 204) dX9_wholeFormula_204 (by decide)) ?_
        refine gb_gd (fun hb => ?_)
        refine gb_callV (pc := 205) (as := [zr x0, zi 1]) (rest := []) (zCl.of (zLk_V (M := MX9_wholeFormula) (ci := 9) (r := (RX9, TX9, 84)) plX9_putAll.1 rfl rfl (zisE hb).1 (zisE hb).2 dX9_wholeFormula_205 q2319 q2321 qs83 q2322) plX9_putAll (Nat.le_of_ble_eq_true rfl) (fun h => c_X9_putAll h)) (fun σ3 => ?_)
        refine zst_ (gj_aload_n 1 (pc := 208) dX9_wholeFormula_208 rfl) ?_
        refine zst_ (gj_dup (pc := 209) dX9_wholeFormula_209 rfl) ?_
        refine gb_get (pc := 210) fl942 dX9_wholeFormula_210 q1924 (Or.inl rfl) (fun v4 => ?_)
        refine zst_ (gj_iconst (pc := 213) dX9_wholeFormula_213 (by decide)) ?_
        refine zst_ (gj_isub (pc := 214) dX9_wholeFormula_214) ?_
        refine gb_put (pc := 215) fl942 fr942 dX9_wholeFormula_215 q1924 (Or.inl rfl) (fun σ5 => ?_)
        refine gb_iinc (pc := 218) 2 (fun y6 => [(1, zi y6), (3, zi v1), (0, zr x0), (2, zi x2)]) dX9_wholeFormula_218 rfl (by decide) (fun _ => rfl) (fun y6 => ?_)
        refine zst_ (gj_aload_n 2 (pc := 221) dX9_wholeFormula_221 rfl) ?_
        refine zst_ (gj_dup (pc := 222) dX9_wholeFormula_222 rfl) ?_
        refine gb_get (pc := 223) fl903 dX9_wholeFormula_223 q1885 (Or.inl rfl) (fun v7 => ?_)
        refine zst_ (gj_iconst (pc := 226) dX9_wholeFormula_226 (by decide)) ?_
        refine zst_ (gj_iadd (pc := 227) dX9_wholeFormula_227) ?_
        refine gb_put (pc := 228) fl903 fr903 dX9_wholeFormula_228 q1885 (Or.inl rfl) (fun σ8 => ?_)
        refine zst_ (gj_aload_n 2 (pc := 231) dX9_wholeFormula_231 rfl) ?_
        refine zst_ (gj_iconst (pc := 232) dX9_wholeFormula_232 (by decide)) ?_
        refine gb_gd (fun hb => ?_)
        refine gb_callV (pc := 233) (as := [zr x0, zi 5]) (rest := []) (zCl.of (zLk_V (M := MX9_wholeFormula) (ci := 9) (r := (RX9, TX9, 84)) plX9_putAll.1 rfl rfl (zisE hb).1 (zisE hb).2 dX9_wholeFormula_233 q2319 q2321 qs83 q2322) plX9_putAll (Nat.le_of_ble_eq_true rfl) (fun h => c_X9_putAll h)) (fun σ9 => ?_)
        refine zst_ (gj_goto 349 (pc := 236) dX9_wholeFormula_236 (by decide)) ?_
        refine zst_ (gj_sub [2, 0, 3] rfl) ?_
        exact fun h => w_X9_wholeFormula_349 x0 y6 x2 σ9 h hk
      · refine zst_ (gj_sub [1] rfl) ?_
        intro h
        obtain ⟨r0, h0, rfl⟩ := zmE h
        exact w_X9_wholeFormula_198 x0 σ2 h0 hk
  · refine zst_ (gj_iload_n 0 (pc := 71) dX9_wholeFormula_71 rfl) ?_
    refine zst_ (gj_bipush (pc := 72) dX9_wholeFormula_72 ⟨rfl, by decide⟩) ?_
    refine gb_if (gj_icmp_ne 82 (pc := 74) dX9_wholeFormula_74 (by decide)) ?_ ?_
    · refine zst_ (gj_iload_n 0 (pc := 82) dX9_wholeFormula_82 rfl) ?_
      refine zst_ (gj_bipush (pc := 83) dX9_wholeFormula_83 ⟨rfl, by decide⟩) ?_
      refine gb_if (gj_icmp_ne 93 (pc := 85) dX9_wholeFormula_85 (by decide)) ?_ ?_
      · refine zst_ (gj_iload_n 0 (pc := 93) dX9_wholeFormula_93 rfl) ?_
        refine zst_ (gj_bipush (pc := 94) dX9_wholeFormula_94 ⟨rfl, by decide⟩) ?_
        refine gb_if (gj_icmp_ne 104 (pc := 96) dX9_wholeFormula_96 (by decide)) ?_ ?_
        · refine zst_ (gj_iload_n 0 (pc := 104) dX9_wholeFormula_104 rfl) ?_
          refine zst_ (gj_bipush (pc := 105) dX9_wholeFormula_105 ⟨rfl, by decide⟩) ?_
          refine gb_if (gj_icmp_ne 115 (pc := 107) dX9_wholeFormula_107 (by decide)) ?_ ?_
          · refine zst_ (gj_iconst (pc := 115) dX9_wholeFormula_115 (by decide)) ?_
            refine zst_ (gj_sub [1, 2, 3, 0] rfl) ?_
            exact fun h => w_X9_wholeFormula_116 x0 x1 x2 v1 (-1) σ2 h hk
          · refine zst_ (gj_bipush (pc := 110) dX9_wholeFormula_110 ⟨rfl, by decide⟩) ?_
            refine zst_ (gj_goto 116 (pc := 112) dX9_wholeFormula_112 (by decide)) ?_
            refine zst_ (gj_sub [1, 2, 3, 0] rfl) ?_
            exact fun h => w_X9_wholeFormula_116 x0 x1 x2 v1 16 σ2 h hk
        · refine zst_ (gj_bipush (pc := 99) dX9_wholeFormula_99 ⟨rfl, by decide⟩) ?_
          refine zst_ (gj_goto 116 (pc := 101) dX9_wholeFormula_101 (by decide)) ?_
          refine zst_ (gj_sub [1, 2, 3, 0] rfl) ?_
          exact fun h => w_X9_wholeFormula_116 x0 x1 x2 v1 15 σ2 h hk
      · refine zst_ (gj_bipush (pc := 88) dX9_wholeFormula_88 ⟨rfl, by decide⟩) ?_
        refine zst_ (gj_goto 116 (pc := 90) dX9_wholeFormula_90 (by decide)) ?_
        refine zst_ (gj_sub [1, 2, 3, 0] rfl) ?_
        exact fun h => w_X9_wholeFormula_116 x0 x1 x2 v1 14 σ2 h hk
    · refine zst_ (gj_bipush (pc := 77) dX9_wholeFormula_77 ⟨rfl, by decide⟩) ?_
      refine zst_ (gj_goto 116 (pc := 79) dX9_wholeFormula_79 (by decide)) ?_
      refine zst_ (gj_sub [1, 2, 3, 0] rfl) ?_
      exact fun h => w_X9_wholeFormula_116 x0 x1 x2 v1 8 σ2 h hk
noncomputable def f_X9_wholeFormula_352 (x0 x1 : Int) (σ : zM) : Option zO :=
  if x1 ≤ 0 then
    zgd (zis σ 10 x0) <|
    zcv (f_X9_putAll x0 1 σ) fun σ1 =>
    zgd (z01 1) <|
    some (0, zi 1, σ1)
  else
    zgd (zis σ 10 x0) <|
    zci (f_X9_fail x0 σ) fun v2 σ3 =>
    zgd (z01 v2) <|
    some (0, zi v2, σ3)
theorem w_X9_wholeFormula_352 {g : zG} {lv : Nat} {out : zO} (x0 x1 : Int) (σ : zM) {r : zO} (h : f_X9_wholeFormula_352 x0 x1 σ = some r) (hk : (fun o : zO => o = out) r) : Gj g MX9_wholeFormula (lv + 4) 352 [(0, zr x0), (1, zi x1)] [] σ out := by
  revert h
  unfold f_X9_wholeFormula_352
  refine zst_ (gj_iload_n 1 (pc := 352) dX9_wholeFormula_352 rfl) ?_
  refine gb_if (gj_if_le 361 (pc := 353) dX9_wholeFormula_353 (by decide)) ?_ ?_
  · refine zst_ (gj_aload_n 0 (pc := 361) dX9_wholeFormula_361 rfl) ?_
    refine zst_ (gj_iconst (pc := 362) dX9_wholeFormula_362 (by decide)) ?_
    refine gb_gd (fun hb => ?_)
    refine gb_callV (pc := 363) (as := [zr x0, zi 1]) (rest := []) (zCl.of (zLk_V (M := MX9_wholeFormula) (ci := 9) (r := (RX9, TX9, 84)) plX9_putAll.1 rfl rfl (zisE hb).1 (zisE hb).2 dX9_wholeFormula_363 q2319 q2321 qs83 q2322) plX9_putAll (Nat.le_of_ble_eq_true rfl) (fun h => c_X9_putAll h)) (fun σ1 => ?_)
    refine zst_ (gj_iconst (pc := 366) dX9_wholeFormula_366 (by decide)) ?_
    refine gb_gd (fun hb => ?_)
    intro h
    cases h
    have hk : (0, zi 1, σ1) = out := hk
    subst hk
    exact gj_ret (pc := 367) (t := .boolean) dX9_wholeFormula_367 rfl ⟨rfl, rfl⟩ (fun _ => z01E hb)
  · refine zst_ (gj_aload_n 0 (pc := 356) dX9_wholeFormula_356 rfl) ?_
    refine gb_gd (fun hb => ?_)
    refine gb_callI (pc := 357) (as := [zr x0]) (rest := []) (zCl.of (zLk_V (M := MX9_wholeFormula) (ci := 9) (r := (RX9, TX9, 84)) plX9_fail.1 rfl rfl (zisE hb).1 (zisE hb).2 dX9_wholeFormula_357 q2166 q2168 qs49 q2169) plX9_fail (Nat.le_of_ble_eq_true rfl) (fun h => c_X9_fail h)) (fun v2 σ3 => ?_)
    refine gb_gd (fun hb => ?_)
    intro h
    cases h
    have hk : (0, zi v2, σ3) = out := hk
    subst hk
    exact gj_ret (pc := 360) (t := .boolean) dX9_wholeFormula_360 rfl ⟨rfl, rfl⟩ (fun _ => z01E hb)
noncomputable def f_X9_wholeFormula_47_b (x0 x1 x2 : Int) (σ : zM) : Option ((Int × Int × zM) ⊕ zO) :=
  if x2 ≠ 0 then
    f_X9_wholeFormula_62 x0 x1 x2 σ
  else
    (zgf σ 903 x0).bind fun v1 =>
    (zgf σ 901 x0).bind fun v2 =>
    if v2 ≤ v1 then
      (f_X9_wholeFormula_352 x0 x1 σ).map (fun r => (.inr r))
    else
      f_X9_wholeFormula_62 x0 x1 x2 σ
noncomputable def f_X9_wholeFormula_47 (x0 x1 x2 : Int) (σ : zM) : Option zO :=
  zloop (fun s : Int × Int × zM => f_X9_wholeFormula_47_b x0 s.1 s.2.1 s.2.2) (x1, x2, σ)
theorem w_X9_wholeFormula_47_b {g : zG} {lv : Nat} {out : zO} (x0 x1 x2 : Int) (σ : zM) {r : ((Int × Int × zM) ⊕ zO)} (h : f_X9_wholeFormula_47_b x0 x1 x2 σ = some r) (hk : (zKL (fun s : Int × Int × zM => Gj g MX9_wholeFormula (lv + 4) 47 [(0, zr x0), (1, zi s.1), (2, zi s.2.1)] [] s.2.2 out) (fun o : zO => o = out)) r) : Gj g MX9_wholeFormula (lv + 4) 47 [(0, zr x0), (1, zi x1), (2, zi x2)] [] σ out := by
  revert h
  unfold f_X9_wholeFormula_47_b
  refine zst_ (gj_iload_n 2 (pc := 47) dX9_wholeFormula_47 rfl) ?_
  refine gb_if (gj_if_ne 62 (pc := 48) dX9_wholeFormula_48 (by decide)) ?_ ?_
  · exact fun h => w_X9_wholeFormula_62 x0 x1 x2 σ h hk
  · refine zst_ (gj_aload_n 0 (pc := 51) dX9_wholeFormula_51 rfl) ?_
    refine gb_get (pc := 52) fl903 dX9_wholeFormula_52 q1885 (Or.inl rfl) (fun v1 => ?_)
    refine zst_ (gj_aload_n 0 (pc := 55) dX9_wholeFormula_55 rfl) ?_
    refine gb_get (pc := 56) fl901 dX9_wholeFormula_56 q1883 (Or.inl rfl) (fun v2 => ?_)
    refine gb_if (gj_icmp_ge 352 (pc := 59) dX9_wholeFormula_59 (by decide)) ?_ ?_
    · refine zst_ (gj_sub [0, 1] rfl) ?_
      intro h
      obtain ⟨r0, h0, rfl⟩ := zmE h
      exact w_X9_wholeFormula_352 x0 x1 σ h0 hk
    · exact fun h => w_X9_wholeFormula_62 x0 x1 x2 σ h hk
theorem w_X9_wholeFormula_47 {g : zG} {lv : Nat} {out : zO} (x0 x1 x2 : Int) (σ : zM) {r : zO} (h : f_X9_wholeFormula_47 x0 x1 x2 σ = some r) (hk : (fun o : zO => o = out) r) : Gj g MX9_wholeFormula (lv + 4) 47 [(0, zr x0), (1, zi x1), (2, zi x2)] [] σ out :=
  gj_loop (P := (fun s : Int × Int × zM => Gj g MX9_wholeFormula (lv + 4) 47 [(0, zr x0), (1, zi s.1), (2, zi s.2.1)] [] s.2.2 out)) (fun s x hb hx => w_X9_wholeFormula_47_b x0 s.1 s.2.1 s.2.2 hb hx) h hk
noncomputable def f_X9_wholeFormula (x0 : Int) (σ : zM) : Option zO :=
  (zpf σ 903 x0 0).bind fun σ1 =>
  (zpf σ1 904 x0 (-1)).bind fun σ2 =>
  (zgf σ2 967 x0).bind fun v3 =>
  (zpf σ2 936 x0 v3).bind fun σ4 =>
  (zpf σ4 962 x0 0).bind fun σ5 =>
  (zpf σ5 964 x0 0).bind fun σ6 =>
  (zpf σ6 969 x0 0).bind fun σ7 =>
  (zpf σ7 965 x0 0).bind fun σ8 =>
  (zpf σ8 942 x0 0).bind fun σ9 =>
  f_X9_wholeFormula_47 x0 0 1 σ9
theorem c_X9_wholeFormula {g : zG} {lv : Nat} {x0 : Int} {σ : zM} {out : zO} (h : f_X9_wholeFormula x0 σ = some out) : Cj g (lv + 4) MX9_wholeFormula [zr x0] σ out := by
  refine cj_go (ls := [(0, zr x0)]) (by decide) (Nat.le_of_ble_eq_true rfl) rfl (zgen h (fun r hk => ?_))
  unfold f_X9_wholeFormula
  refine zst_ (gj_aload_n 0 (pc := 0) dX9_wholeFormula_0 rfl) ?_
  refine zst_ (gj_iconst (pc := 1) dX9_wholeFormula_1 (by decide)) ?_
  refine gb_put (pc := 2) fl903 fr903 dX9_wholeFormula_2 q1885 (Or.inl rfl) (fun σ1 => ?_)
  refine zst_ (gj_aload_n 0 (pc := 5) dX9_wholeFormula_5 rfl) ?_
  refine zst_ (gj_iconst (pc := 6) dX9_wholeFormula_6 (by decide)) ?_
  refine gb_put (pc := 7) fl904 fr904 dX9_wholeFormula_7 q1886 (Or.inl rfl) (fun σ2 => ?_)
  refine zst_ (gj_aload_n 0 (pc := 10) dX9_wholeFormula_10 rfl) ?_
  refine zst_ (gj_aload_n 0 (pc := 11) dX9_wholeFormula_11 rfl) ?_
  refine gb_get (pc := 12) fl967 dX9_wholeFormula_12 q1949 (Or.inl rfl) (fun v3 => ?_)
  refine gb_put (pc := 15) fl936 fr936 dX9_wholeFormula_15 q1918 (Or.inl rfl) (fun σ4 => ?_)
  refine zst_ (gj_aload_n 0 (pc := 18) dX9_wholeFormula_18 rfl) ?_
  refine zst_ (gj_iconst (pc := 19) dX9_wholeFormula_19 (by decide)) ?_
  refine gb_put (pc := 20) fl962 fr962 dX9_wholeFormula_20 q1944 (Or.inl rfl) (fun σ5 => ?_)
  refine zst_ (gj_aload_n 0 (pc := 23) dX9_wholeFormula_23 rfl) ?_
  refine zst_ (gj_iconst (pc := 24) dX9_wholeFormula_24 (by decide)) ?_
  refine gb_put (pc := 25) fl964 fr964 dX9_wholeFormula_25 q1946 (Or.inl rfl) (fun σ6 => ?_)
  refine zst_ (gj_aload_n 0 (pc := 28) dX9_wholeFormula_28 rfl) ?_
  refine zst_ (gj_iconst (pc := 29) dX9_wholeFormula_29 (by decide)) ?_
  refine gb_put (pc := 30) fl969 fr969 dX9_wholeFormula_30 q1951 (Or.inl rfl) (fun σ7 => ?_)
  refine zst_ (gj_aload_n 0 (pc := 33) dX9_wholeFormula_33 rfl) ?_
  refine zst_ (gj_iconst (pc := 34) dX9_wholeFormula_34 (by decide)) ?_
  refine gb_put (pc := 35) fl965 fr965 dX9_wholeFormula_35 q1947 (Or.inl rfl) (fun σ8 => ?_)
  refine zst_ (gj_aload_n 0 (pc := 38) dX9_wholeFormula_38 rfl) ?_
  refine zst_ (gj_iconst (pc := 39) dX9_wholeFormula_39 (by decide)) ?_
  refine gb_put (pc := 40) fl942 fr942 dX9_wholeFormula_40 q1924 (Or.inl rfl) (fun σ9 => ?_)
  refine zst_ (gj_iconst (pc := 43) dX9_wholeFormula_43 (by decide)) ?_
  refine zst_ (gj_istore_n (pc := 44) (ls' := [(1, zi 0), (0, zr x0)]) dX9_wholeFormula_44 (by decide) rfl) ?_
  refine zst_ (gj_iconst (pc := 45) dX9_wholeFormula_45 (by decide)) ?_
  refine zst_ (gj_istore_n (pc := 46) (ls' := [(2, zi 1), (1, zi 0), (0, zr x0)]) dX9_wholeFormula_46 (by decide) rfl) ?_
  refine zst_ (gj_sub [2, 1, 0] rfl) ?_
  exact fun h => w_X9_wholeFormula_47 x0 0 1 σ9 h hk
theorem q2326 : (Jvm.Cond.code ({ cls := "LassoFinderModel", name := "holdsAt", desc := "(I)Z" } : Jvm.MethodName) prog_22_method_48_code (2 : Nat) (Option.some Jvm.ClassFile.FieldType.boolean)) ∈ lw_all := lw_g (lw_at lw_m10 66 rfl) rfl
abbrev cX9_holdsAt : ByteArray := prog_22_method_48_code
def yX9_holdsAt : MethodName := ⟨RX9, "holdsAt", "(I)Z"⟩
theorem dX9_holdsAt_0 : decode cX9_holdsAt 0 = .ok (.aload_n 0, 1) := by decide +kernel
theorem dX9_holdsAt_1 : decode cX9_holdsAt 1 = .ok (.getfield 154, 3) := by decide +kernel
theorem dX9_holdsAt_4 : decode cX9_holdsAt 4 = .ok (.iload_n 1, 1) := by decide +kernel
theorem dX9_holdsAt_5 : decode cX9_holdsAt 5 = .ok (.iaload, 1) := by decide +kernel
theorem dX9_holdsAt_6 : decode cX9_holdsAt 6 = .ok (.ifCond .lt 31, 3) := by decide +kernel
theorem dX9_holdsAt_9 : decode cX9_holdsAt 9 = .ok (.aload_n 0, 1) := by decide +kernel
theorem dX9_holdsAt_10 : decode cX9_holdsAt 10 = .ok (.getfield 139, 3) := by decide +kernel
theorem dX9_holdsAt_13 : decode cX9_holdsAt 13 = .ok (.aload_n 0, 1) := by decide +kernel
theorem dX9_holdsAt_14 : decode cX9_holdsAt 14 = .ok (.getfield 154, 3) := by decide +kernel
theorem dX9_holdsAt_17 : decode cX9_holdsAt 17 = .ok (.iload_n 1, 1) := by decide +kernel
theorem dX9_holdsAt_18 : decode cX9_holdsAt 18 = .ok (.iaload, 1) := by decide +kernel
theorem dX9_holdsAt_19 : decode cX9_holdsAt 19 = .ok (.iaload, 1) := by decide +kernel
theorem dX9_holdsAt_20 : decode cX9_holdsAt 20 = .ok (.aload_n 0, 1) := by decide +kernel
theorem dX9_holdsAt_21 : decode cX9_holdsAt 21 = .ok (.getfield 157, 3) := by decide +kernel
theorem dX9_holdsAt_24 : decode cX9_holdsAt 24 = .ok (.iload_n 1, 1) := by decide +kernel
theorem dX9_holdsAt_25 : decode cX9_holdsAt 25 = .ok (.iaload, 1) := by decide +kernel
theorem dX9_holdsAt_26 : decode cX9_holdsAt 26 = .ok (.if_icmp .ne 7, 3) := by decide +kernel
theorem dX9_holdsAt_29 : decode cX9_holdsAt 29 = .ok (.iconst 1, 1) := by decide +kernel
theorem dX9_holdsAt_30 : decode cX9_holdsAt 30 = .ok (.goto 31, 3) := by decide +kernel
theorem dX9_holdsAt_33 : decode cX9_holdsAt 33 = .ok (.iconst 0, 1) := by decide +kernel
theorem dX9_holdsAt_34 : decode cX9_holdsAt 34 = .ok (.goto 27, 3) := by decide +kernel
theorem dX9_holdsAt_37 : decode cX9_holdsAt 37 = .ok (.aload_n 0, 1) := by decide +kernel
theorem dX9_holdsAt_38 : decode cX9_holdsAt 38 = .ok (.aload_n 0, 1) := by decide +kernel
theorem dX9_holdsAt_39 : decode cX9_holdsAt 39 = .ok (.getfield 160, 3) := by decide +kernel
theorem dX9_holdsAt_42 : decode cX9_holdsAt 42 = .ok (.iload_n 1, 1) := by decide +kernel
theorem dX9_holdsAt_43 : decode cX9_holdsAt 43 = .ok (.iaload, 1) := by decide +kernel
theorem dX9_holdsAt_44 : decode cX9_holdsAt 44 = .ok (.aload_n 0, 1) := by decide +kernel
theorem dX9_holdsAt_45 : decode cX9_holdsAt 45 = .ok (.getfield 163, 3) := by decide +kernel
theorem dX9_holdsAt_48 : decode cX9_holdsAt 48 = .ok (.iload_n 1, 1) := by decide +kernel
theorem dX9_holdsAt_49 : decode cX9_holdsAt 49 = .ok (.iaload, 1) := by decide +kernel
theorem dX9_holdsAt_50 : decode cX9_holdsAt 50 = .ok (.invokevirtual 314, 3) := by decide +kernel
theorem dX9_holdsAt_53 : decode cX9_holdsAt 53 = .ok (.ifCond .eq 7, 3) := by decide +kernel
theorem dX9_holdsAt_56 : decode cX9_holdsAt 56 = .ok (.iconst 1, 1) := by decide +kernel
theorem dX9_holdsAt_57 : decode cX9_holdsAt 57 = .ok (.goto 4, 3) := by decide +kernel
theorem dX9_holdsAt_60 : decode cX9_holdsAt 60 = .ok (.iconst 0, 1) := by decide +kernel
theorem dX9_holdsAt_61 : decode cX9_holdsAt 61 = .ok (.ireturn, 1) := by decide +kernel
abbrev MX9_holdsAt : zT := (yX9_holdsAt, cX9_holdsAt, 2, (Option.some Jvm.ClassFile.FieldType.boolean), [])
theorem plX9_holdsAt : zplain MX9_holdsAt 1 ∧ (zcodeW MX9_holdsAt ∈ lw_all ∧ Cond.initialized MX9_holdsAt.1.cls ∈ lw_all) := ⟨⟨by decide +kernel, by decide +kernel⟩, q2326, q127⟩
noncomputable def f_X9_holdsAt_61 (t0 : Int) (σ : zM) : Option zO :=
  zgd (z01 t0) <|
  some (0, zi t0, σ)
theorem w_X9_holdsAt_61 {g : zG} {lv : Nat} {out : zO} (t0 : Int) (σ : zM) {r : zO} (h : f_X9_holdsAt_61 t0 σ = some r) (hk : (fun o : zO => o = out) r) : Gj g MX9_holdsAt (lv + 1) 61 [] [zi t0] σ out := by
  revert h
  unfold f_X9_holdsAt_61
  refine gb_gd (fun hb => ?_)
  intro h
  cases h
  have hk : (0, zi t0, σ) = out := hk
  subst hk
  exact gj_ret (pc := 61) (t := .boolean) dX9_holdsAt_61 rfl ⟨rfl, rfl⟩ (fun _ => z01E hb)
noncomputable def f_X9_holdsAt (x0 x1 : Int) (σ : zM) : Option zO :=
  (zgf σ 970 x0).bind fun v1 =>
  (zga σ 101 v1 x1).bind fun v2 =>
  if v2 < 0 then
    (zgf σ 972 x0).bind fun v3 =>
    (zga σ 101 v3 x1).bind fun v4 =>
    (zgf σ 973 x0).bind fun v5 =>
    (zga σ 101 v5 x1).bind fun v6 =>
    zgd (zis σ 10 x0) <|
    zci (f_X9_worth x0 v4 v6 σ) fun v7 σ8 =>
    if v7 = 0 then
      f_X9_holdsAt_61 0 σ8
    else
      f_X9_holdsAt_61 1 σ8
  else
    (zgf σ 958 x0).bind fun v9 =>
    (zgf σ 970 x0).bind fun v10 =>
    (zga σ 101 v10 x1).bind fun v11 =>
    (zga σ 101 v9 v11).bind fun v12 =>
    (zgf σ 971 x0).bind fun v13 =>
    (zga σ 101 v13 x1).bind fun v14 =>
    if v12 ≠ v14 then
      f_X9_holdsAt_61 0 σ
    else
      f_X9_holdsAt_61 1 σ
theorem c_X9_holdsAt {g : zG} {lv : Nat} {x0 x1 : Int} {σ : zM} {out : zO} (h : f_X9_holdsAt x0 x1 σ = some out) : Cj g (lv + 1) MX9_holdsAt [zr x0, zi x1] σ out := by
  refine cj_go (ls := [(0, zr x0), (1, zi x1)]) (by decide) (Nat.le_of_ble_eq_true rfl) rfl (zgen h (fun r hk => ?_))
  unfold f_X9_holdsAt
  refine zst_ (gj_aload_n 0 (pc := 0) dX9_holdsAt_0 rfl) ?_
  refine gb_get (pc := 1) fl970 dX9_holdsAt_1 q1952 (Or.inl rfl) (fun v1 => ?_)
  refine zst_ (gj_iload_n 1 (pc := 4) dX9_holdsAt_4 rfl) ?_
  refine gb_iald (pc := 5) dX9_holdsAt_5 (fun v2 => ?_)
  refine gb_if (gj_if_lt 37 (pc := 6) dX9_holdsAt_6 (by decide)) ?_ ?_
  · refine zst_ (gj_aload_n 0 (pc := 37) dX9_holdsAt_37 rfl) ?_
    refine zst_ (gj_aload_n 0 (pc := 38) dX9_holdsAt_38 rfl) ?_
    refine gb_get (pc := 39) fl972 dX9_holdsAt_39 q1954 (Or.inl rfl) (fun v3 => ?_)
    refine zst_ (gj_iload_n 1 (pc := 42) dX9_holdsAt_42 rfl) ?_
    refine gb_iald (pc := 43) dX9_holdsAt_43 (fun v4 => ?_)
    refine zst_ (gj_aload_n 0 (pc := 44) dX9_holdsAt_44 rfl) ?_
    refine gb_get (pc := 45) fl973 dX9_holdsAt_45 q1955 (Or.inl rfl) (fun v5 => ?_)
    refine zst_ (gj_iload_n 1 (pc := 48) dX9_holdsAt_48 rfl) ?_
    refine gb_iald (pc := 49) dX9_holdsAt_49 (fun v6 => ?_)
    refine gb_gd (fun hb => ?_)
    refine gb_callI (pc := 50) (as := [zr x0, zi v4, zi v6]) (rest := []) (zCl.of (zLk_V (M := MX9_holdsAt) (ci := 9) (r := (RX9, TX9, 84)) plX9_worth.1 rfl rfl (zisE hb).1 (zisE hb).2 dX9_holdsAt_50 q2268 q2270 qs73 q2271) plX9_worth (Nat.le_of_ble_eq_true rfl) (fun h => c_X9_worth h)) (fun v7 σ8 => ?_)
    refine gb_if (gj_if_eq 60 (pc := 53) dX9_holdsAt_53 (by decide)) ?_ ?_
    · refine zst_ (gj_iconst (pc := 60) dX9_holdsAt_60 (by decide)) ?_
      refine zst_ (gj_sub [] rfl) ?_
      exact fun h => w_X9_holdsAt_61 0 σ8 h hk
    · refine zst_ (gj_iconst (pc := 56) dX9_holdsAt_56 (by decide)) ?_
      refine zst_ (gj_goto 61 (pc := 57) dX9_holdsAt_57 (by decide)) ?_
      refine zst_ (gj_sub [] rfl) ?_
      exact fun h => w_X9_holdsAt_61 1 σ8 h hk
  · refine zst_ (gj_aload_n 0 (pc := 9) dX9_holdsAt_9 rfl) ?_
    refine gb_get (pc := 10) fl958 dX9_holdsAt_10 q1940 (Or.inl rfl) (fun v9 => ?_)
    refine zst_ (gj_aload_n 0 (pc := 13) dX9_holdsAt_13 rfl) ?_
    refine gb_get (pc := 14) fl970 dX9_holdsAt_14 q1952 (Or.inl rfl) (fun v10 => ?_)
    refine zst_ (gj_iload_n 1 (pc := 17) dX9_holdsAt_17 rfl) ?_
    refine gb_iald (pc := 18) dX9_holdsAt_18 (fun v11 => ?_)
    refine gb_iald (pc := 19) dX9_holdsAt_19 (fun v12 => ?_)
    refine zst_ (gj_aload_n 0 (pc := 20) dX9_holdsAt_20 rfl) ?_
    refine gb_get (pc := 21) fl971 dX9_holdsAt_21 q1953 (Or.inl rfl) (fun v13 => ?_)
    refine zst_ (gj_iload_n 1 (pc := 24) dX9_holdsAt_24 rfl) ?_
    refine gb_iald (pc := 25) dX9_holdsAt_25 (fun v14 => ?_)
    refine gb_if (gj_icmp_ne 33 (pc := 26) dX9_holdsAt_26 (by decide)) ?_ ?_
    · refine zst_ (gj_iconst (pc := 33) dX9_holdsAt_33 (by decide)) ?_
      refine zst_ (gj_goto 61 (pc := 34) dX9_holdsAt_34 (by decide)) ?_
      refine zst_ (gj_sub [] rfl) ?_
      exact fun h => w_X9_holdsAt_61 0 σ h hk
    · refine zst_ (gj_iconst (pc := 29) dX9_holdsAt_29 (by decide)) ?_
      refine zst_ (gj_goto 61 (pc := 30) dX9_holdsAt_30 (by decide)) ?_
      refine zst_ (gj_sub [] rfl) ?_
      exact fun h => w_X9_holdsAt_61 1 σ h hk
theorem q2330 : (Jvm.Cond.code ({ cls := "LassoFinderModel", name := "looked", desc := "(II)I" } : Jvm.MethodName) prog_22_method_49_code (10 : Nat) (Option.some Jvm.ClassFile.FieldType.int)) ∈ lw_all := lw_g (lw_at lw_m10 70 rfl) rfl
abbrev cX9_looked : ByteArray := prog_22_method_49_code
def yX9_looked : MethodName := ⟨RX9, "looked", "(II)I"⟩
theorem dX9_looked_0 : decode cX9_looked 0 = .ok (.iconst 0, 1) := by decide +kernel
theorem dX9_looked_1 : decode cX9_looked 1 = .ok (.istore_n 3, 1) := by decide +kernel
theorem dX9_looked_2 : decode cX9_looked 2 = .ok (.iconst 0, 1) := by decide +kernel
theorem dX9_looked_3 : decode cX9_looked 3 = .ok (.istore 4, 2) := by decide +kernel
theorem dX9_looked_5 : decode cX9_looked 5 = .ok (.iconst 0, 1) := by decide +kernel
theorem dX9_looked_6 : decode cX9_looked 6 = .ok (.istore 5, 2) := by decide +kernel
theorem dX9_looked_8 : decode cX9_looked 8 = .ok (.iconst 0, 1) := by decide +kernel
theorem dX9_looked_9 : decode cX9_looked 9 = .ok (.istore 6, 2) := by decide +kernel
theorem dX9_looked_11 : decode cX9_looked 11 = .ok (.iload 6, 2) := by decide +kernel
theorem dX9_looked_13 : decode cX9_looked 13 = .ok (.aload_n 0, 1) := by decide +kernel
theorem dX9_looked_14 : decode cX9_looked 14 = .ok (.getfield 379, 3) := by decide +kernel
theorem dX9_looked_17 : decode cX9_looked 17 = .ok (.if_icmp .ge 238, 3) := by decide +kernel
theorem dX9_looked_20 : decode cX9_looked 20 = .ok (.aload_n 0, 1) := by decide +kernel
theorem dX9_looked_21 : decode cX9_looked 21 = .ok (.getfield 145, 3) := by decide +kernel
theorem dX9_looked_24 : decode cX9_looked 24 = .ok (.iload 6, 2) := by decide +kernel
theorem dX9_looked_26 : decode cX9_looked 26 = .ok (.iaload, 1) := by decide +kernel
theorem dX9_looked_27 : decode cX9_looked 27 = .ok (.istore 7, 2) := by decide +kernel
theorem dX9_looked_29 : decode cX9_looked 29 = .ok (.iload 7, 2) := by decide +kernel
theorem dX9_looked_31 : decode cX9_looked 31 = .ok (.bipush 8, 2) := by decide +kernel
theorem dX9_looked_33 : decode cX9_looked 33 = .ok (.if_icmp .ge 21, 3) := by decide +kernel
theorem dX9_looked_36 : decode cX9_looked 36 = .ok (.aload_n 0, 1) := by decide +kernel
theorem dX9_looked_37 : decode cX9_looked 37 = .ok (.getfield 142, 3) := by decide +kernel
theorem dX9_looked_40 : decode cX9_looked 40 = .ok (.iload_n 3, 1) := by decide +kernel
theorem dX9_looked_41 : decode cX9_looked 41 = .ok (.iload_n 1, 1) := by decide +kernel
theorem dX9_looked_42 : decode cX9_looked 42 = .ok (.iload 7, 2) := by decide +kernel
theorem dX9_looked_44 : decode cX9_looked 44 = .ok (.ishr, 1) := by decide +kernel
theorem dX9_looked_45 : decode cX9_looked 45 = .ok (.iconst 1, 1) := by decide +kernel
theorem dX9_looked_46 : decode cX9_looked 46 = .ok (.iand, 1) := by decide +kernel
theorem dX9_looked_47 : decode cX9_looked 47 = .ok (.iastore, 1) := by decide +kernel
theorem dX9_looked_48 : decode cX9_looked 48 = .ok (.iinc 3 1, 3) := by decide +kernel
theorem dX9_looked_51 : decode cX9_looked 51 = .ok (.goto 198, 3) := by decide +kernel
theorem dX9_looked_54 : decode cX9_looked 54 = .ok (.iload 7, 2) := by decide +kernel
theorem dX9_looked_56 : decode cX9_looked 56 = .ok (.bipush 8, 2) := by decide +kernel
theorem dX9_looked_58 : decode cX9_looked 58 = .ok (.if_icmp .ne 24, 3) := by decide +kernel
theorem dX9_looked_61 : decode cX9_looked 61 = .ok (.aload_n 0, 1) := by decide +kernel
theorem dX9_looked_62 : decode cX9_looked 62 = .ok (.getfield 142, 3) := by decide +kernel
theorem dX9_looked_65 : decode cX9_looked 65 = .ok (.iload_n 3, 1) := by decide +kernel
theorem dX9_looked_66 : decode cX9_looked 66 = .ok (.iconst 1, 1) := by decide +kernel
theorem dX9_looked_67 : decode cX9_looked 67 = .ok (.isub, 1) := by decide +kernel
theorem dX9_looked_68 : decode cX9_looked 68 = .ok (.iconst 1, 1) := by decide +kernel
theorem dX9_looked_69 : decode cX9_looked 69 = .ok (.aload_n 0, 1) := by decide +kernel
theorem dX9_looked_70 : decode cX9_looked 70 = .ok (.getfield 142, 3) := by decide +kernel
theorem dX9_looked_73 : decode cX9_looked 73 = .ok (.iload_n 3, 1) := by decide +kernel
theorem dX9_looked_74 : decode cX9_looked 74 = .ok (.iconst 1, 1) := by decide +kernel
theorem dX9_looked_75 : decode cX9_looked 75 = .ok (.isub, 1) := by decide +kernel
theorem dX9_looked_76 : decode cX9_looked 76 = .ok (.iaload, 1) := by decide +kernel
theorem dX9_looked_77 : decode cX9_looked 77 = .ok (.isub, 1) := by decide +kernel
theorem dX9_looked_78 : decode cX9_looked 78 = .ok (.iastore, 1) := by decide +kernel
theorem dX9_looked_79 : decode cX9_looked 79 = .ok (.goto 170, 3) := by decide +kernel
theorem dX9_looked_82 : decode cX9_looked 82 = .ok (.iload 7, 2) := by decide +kernel
theorem dX9_looked_84 : decode cX9_looked 84 = .ok (.bipush 14, 2) := by decide +kernel
theorem dX9_looked_86 : decode cX9_looked 86 = .ok (.if_icmp .eq 10, 3) := by decide +kernel
theorem dX9_looked_89 : decode cX9_looked 89 = .ok (.iload 7, 2) := by decide +kernel
theorem dX9_looked_91 : decode cX9_looked 91 = .ok (.bipush 15, 2) := by decide +kernel
theorem dX9_looked_93 : decode cX9_looked 93 = .ok (.if_icmp .ne 41, 3) := by decide +kernel
theorem dX9_looked_96 : decode cX9_looked 96 = .ok (.iload 4, 2) := by decide +kernel
theorem dX9_looked_98 : decode cX9_looked 98 = .ok (.aload_n 0, 1) := by decide +kernel
theorem dX9_looked_99 : decode cX9_looked 99 = .ok (.getfield 142, 3) := by decide +kernel
theorem dX9_looked_102 : decode cX9_looked 102 = .ok (.iload_n 3, 1) := by decide +kernel
theorem dX9_looked_103 : decode cX9_looked 103 = .ok (.iconst 1, 1) := by decide +kernel
theorem dX9_looked_104 : decode cX9_looked 104 = .ok (.isub, 1) := by decide +kernel
theorem dX9_looked_105 : decode cX9_looked 105 = .ok (.iaload, 1) := by decide +kernel
theorem dX9_looked_106 : decode cX9_looked 106 = .ok (.iconst 2, 1) := by decide +kernel
theorem dX9_looked_107 : decode cX9_looked 107 = .ok (.iload 5, 2) := by decide +kernel
theorem dX9_looked_109 : decode cX9_looked 109 = .ok (.imul, 1) := by decide +kernel
theorem dX9_looked_110 : decode cX9_looked 110 = .ok (.ishl, 1) := by decide +kernel
theorem dX9_looked_111 : decode cX9_looked 111 = .ok (.ior, 1) := by decide +kernel
theorem dX9_looked_112 : decode cX9_looked 112 = .ok (.istore 4, 2) := by decide +kernel
theorem dX9_looked_114 : decode cX9_looked 114 = .ok (.aload_n 0, 1) := by decide +kernel
theorem dX9_looked_115 : decode cX9_looked 115 = .ok (.getfield 142, 3) := by decide +kernel
theorem dX9_looked_118 : decode cX9_looked 118 = .ok (.iload_n 3, 1) := by decide +kernel
theorem dX9_looked_119 : decode cX9_looked 119 = .ok (.iconst 1, 1) := by decide +kernel
theorem dX9_looked_120 : decode cX9_looked 120 = .ok (.isub, 1) := by decide +kernel
theorem dX9_looked_121 : decode cX9_looked 121 = .ok (.iload_n 2, 1) := by decide +kernel
theorem dX9_looked_122 : decode cX9_looked 122 = .ok (.iload 5, 2) := by decide +kernel
theorem dX9_looked_124 : decode cX9_looked 124 = .ok (.ishr, 1) := by decide +kernel
theorem dX9_looked_125 : decode cX9_looked 125 = .ok (.iconst 1, 1) := by decide +kernel
theorem dX9_looked_126 : decode cX9_looked 126 = .ok (.iand, 1) := by decide +kernel
theorem dX9_looked_127 : decode cX9_looked 127 = .ok (.iastore, 1) := by decide +kernel
theorem dX9_looked_128 : decode cX9_looked 128 = .ok (.iinc 5 1, 3) := by decide +kernel
theorem dX9_looked_131 : decode cX9_looked 131 = .ok (.goto 118, 3) := by decide +kernel
theorem dX9_looked_134 : decode cX9_looked 134 = .ok (.iinc 3 (-1), 3) := by decide +kernel
theorem dX9_looked_137 : decode cX9_looked 137 = .ok (.aload_n 0, 1) := by decide +kernel
theorem dX9_looked_138 : decode cX9_looked 138 = .ok (.getfield 142, 3) := by decide +kernel
theorem dX9_looked_141 : decode cX9_looked 141 = .ok (.iload_n 3, 1) := by decide +kernel
theorem dX9_looked_142 : decode cX9_looked 142 = .ok (.iconst 1, 1) := by decide +kernel
theorem dX9_looked_143 : decode cX9_looked 143 = .ok (.isub, 1) := by decide +kernel
theorem dX9_looked_144 : decode cX9_looked 144 = .ok (.iaload, 1) := by decide +kernel
theorem dX9_looked_145 : decode cX9_looked 145 = .ok (.istore 8, 2) := by decide +kernel
theorem dX9_looked_147 : decode cX9_looked 147 = .ok (.aload_n 0, 1) := by decide +kernel
theorem dX9_looked_148 : decode cX9_looked 148 = .ok (.getfield 142, 3) := by decide +kernel
theorem dX9_looked_151 : decode cX9_looked 151 = .ok (.iload_n 3, 1) := by decide +kernel
theorem dX9_looked_152 : decode cX9_looked 152 = .ok (.iaload, 1) := by decide +kernel
theorem dX9_looked_153 : decode cX9_looked 153 = .ok (.istore 9, 2) := by decide +kernel
theorem dX9_looked_155 : decode cX9_looked 155 = .ok (.iload 7, 2) := by decide +kernel
theorem dX9_looked_157 : decode cX9_looked 157 = .ok (.bipush 12, 2) := by decide +kernel
theorem dX9_looked_159 : decode cX9_looked 159 = .ok (.if_icmp .lt 45, 3) := by decide +kernel
theorem dX9_looked_162 : decode cX9_looked 162 = .ok (.iload 4, 2) := by decide +kernel
theorem dX9_looked_164 : decode cX9_looked 164 = .ok (.iload 8, 2) := by decide +kernel
theorem dX9_looked_166 : decode cX9_looked 166 = .ok (.iconst 2, 1) := by decide +kernel
theorem dX9_looked_167 : decode cX9_looked 167 = .ok (.iload 5, 2) := by decide +kernel
theorem dX9_looked_169 : decode cX9_looked 169 = .ok (.imul, 1) := by decide +kernel
theorem dX9_looked_170 : decode cX9_looked 170 = .ok (.ishl, 1) := by decide +kernel
theorem dX9_looked_171 : decode cX9_looked 171 = .ok (.iload 9, 2) := by decide +kernel
theorem dX9_looked_173 : decode cX9_looked 173 = .ok (.iconst 2, 1) := by decide +kernel
theorem dX9_looked_174 : decode cX9_looked 174 = .ok (.iload 5, 2) := by decide +kernel
theorem dX9_looked_176 : decode cX9_looked 176 = .ok (.imul, 1) := by decide +kernel
theorem dX9_looked_177 : decode cX9_looked 177 = .ok (.iconst 1, 1) := by decide +kernel
theorem dX9_looked_178 : decode cX9_looked 178 = .ok (.iadd, 1) := by decide +kernel
theorem dX9_looked_179 : decode cX9_looked 179 = .ok (.ishl, 1) := by decide +kernel
theorem dX9_looked_180 : decode cX9_looked 180 = .ok (.ior, 1) := by decide +kernel
theorem dX9_looked_181 : decode cX9_looked 181 = .ok (.ior, 1) := by decide +kernel
theorem dX9_looked_182 : decode cX9_looked 182 = .ok (.istore 4, 2) := by decide +kernel
theorem dX9_looked_184 : decode cX9_looked 184 = .ok (.aload_n 0, 1) := by decide +kernel
theorem dX9_looked_185 : decode cX9_looked 185 = .ok (.getfield 142, 3) := by decide +kernel
theorem dX9_looked_188 : decode cX9_looked 188 = .ok (.iload_n 3, 1) := by decide +kernel
theorem dX9_looked_189 : decode cX9_looked 189 = .ok (.iconst 1, 1) := by decide +kernel
theorem dX9_looked_190 : decode cX9_looked 190 = .ok (.isub, 1) := by decide +kernel
theorem dX9_looked_191 : decode cX9_looked 191 = .ok (.iload_n 2, 1) := by decide +kernel
theorem dX9_looked_192 : decode cX9_looked 192 = .ok (.iload 5, 2) := by decide +kernel
theorem dX9_looked_194 : decode cX9_looked 194 = .ok (.ishr, 1) := by decide +kernel
theorem dX9_looked_195 : decode cX9_looked 195 = .ok (.iconst 1, 1) := by decide +kernel
theorem dX9_looked_196 : decode cX9_looked 196 = .ok (.iand, 1) := by decide +kernel
theorem dX9_looked_197 : decode cX9_looked 197 = .ok (.iastore, 1) := by decide +kernel
theorem dX9_looked_198 : decode cX9_looked 198 = .ok (.iinc 5 1, 3) := by decide +kernel
theorem dX9_looked_201 : decode cX9_looked 201 = .ok (.goto 48, 3) := by decide +kernel
theorem dX9_looked_204 : decode cX9_looked 204 = .ok (.aload_n 0, 1) := by decide +kernel
theorem dX9_looked_205 : decode cX9_looked 205 = .ok (.getfield 142, 3) := by decide +kernel
theorem dX9_looked_208 : decode cX9_looked 208 = .ok (.iload_n 3, 1) := by decide +kernel
theorem dX9_looked_209 : decode cX9_looked 209 = .ok (.iconst 1, 1) := by decide +kernel
theorem dX9_looked_210 : decode cX9_looked 210 = .ok (.isub, 1) := by decide +kernel
theorem dX9_looked_211 : decode cX9_looked 211 = .ok (.iload 7, 2) := by decide +kernel
theorem dX9_looked_213 : decode cX9_looked 213 = .ok (.bipush 9, 2) := by decide +kernel
theorem dX9_looked_215 : decode cX9_looked 215 = .ok (.if_icmp .ne 11, 3) := by decide +kernel
theorem dX9_looked_218 : decode cX9_looked 218 = .ok (.iload 8, 2) := by decide +kernel
theorem dX9_looked_220 : decode cX9_looked 220 = .ok (.iload 9, 2) := by decide +kernel
theorem dX9_looked_222 : decode cX9_looked 222 = .ok (.iand, 1) := by decide +kernel
theorem dX9_looked_223 : decode cX9_looked 223 = .ok (.goto 25, 3) := by decide +kernel
theorem dX9_looked_226 : decode cX9_looked 226 = .ok (.iload 7, 2) := by decide +kernel
theorem dX9_looked_228 : decode cX9_looked 228 = .ok (.bipush 10, 2) := by decide +kernel
theorem dX9_looked_230 : decode cX9_looked 230 = .ok (.if_icmp .ne 11, 3) := by decide +kernel
theorem dX9_looked_233 : decode cX9_looked 233 = .ok (.iload 8, 2) := by decide +kernel
theorem dX9_looked_235 : decode cX9_looked 235 = .ok (.iload 9, 2) := by decide +kernel
theorem dX9_looked_237 : decode cX9_looked 237 = .ok (.ior, 1) := by decide +kernel
theorem dX9_looked_238 : decode cX9_looked 238 = .ok (.goto 10, 3) := by decide +kernel
theorem dX9_looked_241 : decode cX9_looked 241 = .ok (.iconst 1, 1) := by decide +kernel
theorem dX9_looked_242 : decode cX9_looked 242 = .ok (.iload 8, 2) := by decide +kernel
theorem dX9_looked_244 : decode cX9_looked 244 = .ok (.isub, 1) := by decide +kernel
theorem dX9_looked_245 : decode cX9_looked 245 = .ok (.iload 9, 2) := by decide +kernel
theorem dX9_looked_247 : decode cX9_looked 247 = .ok (.ior, 1) := by decide +kernel
theorem dX9_looked_248 : decode cX9_looked 248 = .ok (.iastore, 1) := by decide +kernel
theorem dX9_looked_249 : decode cX9_looked 249 = .ok (.iinc 6 1, 3) := by decide +kernel
theorem dX9_looked_252 : decode cX9_looked 252 = .ok (.goto (-241), 3) := by decide +kernel
theorem dX9_looked_255 : decode cX9_looked 255 = .ok (.iload 4, 2) := by decide +kernel
theorem dX9_looked_257 : decode cX9_looked 257 = .ok (.aload_n 0, 1) := by decide +kernel
theorem dX9_looked_258 : decode cX9_looked 258 = .ok (.getfield 142, 3) := by decide +kernel
theorem dX9_looked_261 : decode cX9_looked 261 = .ok (.iconst 0, 1) := by decide +kernel
theorem dX9_looked_262 : decode cX9_looked 262 = .ok (.iaload, 1) := by decide +kernel
theorem dX9_looked_263 : decode cX9_looked 263 = .ok (.bipush 6, 2) := by decide +kernel
theorem dX9_looked_265 : decode cX9_looked 265 = .ok (.ishl, 1) := by decide +kernel
theorem dX9_looked_266 : decode cX9_looked 266 = .ok (.ior, 1) := by decide +kernel
theorem dX9_looked_267 : decode cX9_looked 267 = .ok (.ireturn, 1) := by decide +kernel
abbrev MX9_looked : zT := (yX9_looked, cX9_looked, 10, (Option.some Jvm.ClassFile.FieldType.int), [])
theorem plX9_looked : zplain MX9_looked 2 ∧ (zcodeW MX9_looked ∈ lw_all ∧ Cond.initialized MX9_looked.1.cls ∈ lw_all) := ⟨⟨by decide +kernel, by decide +kernel⟩, q2330, q127⟩
noncomputable def f_X9_looked_255 (x0 x4 : Int) (σ : zM) : Option zO :=
  (zgf σ 960 x0).bind fun v1 =>
  (zga σ 101 v1 0).bind fun v2 =>
  some (0, zi (zor x4 (zshl v2 6)), σ)
theorem w_X9_looked_255 {g : zG} {lv : Nat} {out : zO} (x0 x4 : Int) (σ : zM) {r : zO} (h : f_X9_looked_255 x0 x4 σ = some r) (hk : (fun o : zO => o = out) r) : Gj g MX9_looked (lv) 255 [(0, zr x0), (4, zi x4)] [] σ out := by
  revert h
  unfold f_X9_looked_255
  refine zst_ (gj_iload 1 (pc := 255) dX9_looked_255 rfl) ?_
  refine zst_ (gj_aload_n 0 (pc := 257) dX9_looked_257 rfl) ?_
  refine gb_get (pc := 258) fl960 dX9_looked_258 q1942 (Or.inl rfl) (fun v1 => ?_)
  refine zst_ (gj_iconst (pc := 261) dX9_looked_261 (by decide)) ?_
  refine gb_iald (pc := 262) dX9_looked_262 (fun v2 => ?_)
  refine zst_ (gj_bipush (pc := 263) dX9_looked_263 ⟨rfl, by decide⟩) ?_
  refine zst_ (gj_ishl (pc := 265) dX9_looked_265) ?_
  refine zst_ (gj_ior (pc := 266) dX9_looked_266) ?_
  intro h
  cases h
  have hk : (0, zi (zor x4 (zshl v2 6)), σ) = out := hk
  subst hk
  exact gj_ret (pc := 267) (t := .int) dX9_looked_267 rfl ⟨rfl, rfl⟩ (fun h => h)
noncomputable def f_X9_looked_249 (x0 x1 x2 x3 x4 x5 x6 : Int) (σ : zM) : Option ((Int × Int × Int × Int × zM) ⊕ zO) :=
  zlet (zadd x6 1) fun y1 =>
  some (.inl (x3, x4, x5, y1, σ))
theorem w_X9_looked_249 {g : zG} {lv : Nat} {out : zO} (x0 x1 x2 x3 x4 x5 x6 : Int) (σ : zM) {r : ((Int × Int × Int × Int × zM) ⊕ zO)} (h : f_X9_looked_249 x0 x1 x2 x3 x4 x5 x6 σ = some r) (hk : (zKL (fun s : Int × Int × Int × Int × zM => Gj g MX9_looked (lv) 11 [(0, zr x0), (1, zi x1), (2, zi x2), (3, zi s.1), (4, zi s.2.1), (5, zi s.2.2.1), (6, zi s.2.2.2.1)] [] s.2.2.2.2 out) (fun o : zO => o = out)) r) : Gj g MX9_looked (lv) 249 [(0, zr x0), (1, zi x1), (2, zi x2), (3, zi x3), (4, zi x4), (5, zi x5), (6, zi x6)] [] σ out := by
  revert h
  unfold f_X9_looked_249
  refine gb_iinc (pc := 249) 6 (fun y1 => [(6, zi y1), (0, zr x0), (1, zi x1), (2, zi x2), (3, zi x3), (4, zi x4), (5, zi x5)]) dX9_looked_249 rfl (by decide) (fun _ => rfl) (fun y1 => ?_)
  refine zst_ (gj_goto 11 (pc := 252) dX9_looked_252 (by decide)) ?_
  refine zst_ (gj_sub [1, 2, 3, 4, 5, 6, 0] rfl) ?_
  intro h
  cases h
  exact hk
noncomputable def f_X9_looked_96 (x0 x1 x2 x3 x4 x5 x6 : Int) (σ : zM) : Option ((Int × Int × Int × Int × zM) ⊕ zO) :=
  (zgf σ 960 x0).bind fun v1 =>
  (zga σ 101 v1 (zsub x3 1)).bind fun v2 =>
  zlet ((zor x4 (zshl v2 (zmul 2 x5)))) fun y3 =>
  (zgf σ 960 x0).bind fun v4 =>
  (zpa σ 101 v4 (zsub x3 1) (zand (zshr x2 x5) 1)).bind fun σ5 =>
  zlet (zadd x5 1) fun y6 =>
  f_X9_looked_249 x0 x1 x2 x3 y3 y6 x6 σ5
theorem w_X9_looked_96 {g : zG} {lv : Nat} {out : zO} (x0 x1 x2 x3 x4 x5 x6 : Int) (σ : zM) {r : ((Int × Int × Int × Int × zM) ⊕ zO)} (h : f_X9_looked_96 x0 x1 x2 x3 x4 x5 x6 σ = some r) (hk : (zKL (fun s : Int × Int × Int × Int × zM => Gj g MX9_looked (lv) 11 [(0, zr x0), (1, zi x1), (2, zi x2), (3, zi s.1), (4, zi s.2.1), (5, zi s.2.2.1), (6, zi s.2.2.2.1)] [] s.2.2.2.2 out) (fun o : zO => o = out)) r) : Gj g MX9_looked (lv) 96 [(0, zr x0), (1, zi x1), (2, zi x2), (3, zi x3), (4, zi x4), (5, zi x5), (6, zi x6)] [] σ out := by
  revert h
  unfold f_X9_looked_96
  refine zst_ (gj_iload 4 (pc := 96) dX9_looked_96 rfl) ?_
  refine zst_ (gj_aload_n 0 (pc := 98) dX9_looked_98 rfl) ?_
  refine gb_get (pc := 99) fl960 dX9_looked_99 q1942 (Or.inl rfl) (fun v1 => ?_)
  refine zst_ (gj_iload_n 3 (pc := 102) dX9_looked_102 rfl) ?_
  refine zst_ (gj_iconst (pc := 103) dX9_looked_103 (by decide)) ?_
  refine zst_ (gj_isub (pc := 104) dX9_looked_104) ?_
  refine gb_iald (pc := 105) dX9_looked_105 (fun v2 => ?_)
  refine zst_ (gj_iconst (pc := 106) dX9_looked_106 (by decide)) ?_
  refine zst_ (gj_iload 5 (pc := 107) dX9_looked_107 rfl) ?_
  refine zst_ (gj_imul (pc := 109) dX9_looked_109) ?_
  refine zst_ (gj_ishl (pc := 110) dX9_looked_110) ?_
  refine zst_ (gj_ior (pc := 111) dX9_looked_111) ?_
  refine gb_let (fun y3 => ?_)
  refine zst_ (gj_istore (pc := 112) (ls' := [(4, zi y3), (0, zr x0), (1, zi x1), (2, zi x2), (3, zi x3), (5, zi x5), (6, zi x6)]) dX9_looked_112 (by decide) rfl) ?_
  refine zst_ (gj_aload_n 1 (pc := 114) dX9_looked_114 rfl) ?_
  refine gb_get (pc := 115) fl960 dX9_looked_115 q1942 (Or.inl rfl) (fun v4 => ?_)
  refine zst_ (gj_iload_n 4 (pc := 118) dX9_looked_118 rfl) ?_
  refine zst_ (gj_iconst (pc := 119) dX9_looked_119 (by decide)) ?_
  refine zst_ (gj_isub (pc := 120) dX9_looked_120) ?_
  refine zst_ (gj_iload_n 3 (pc := 121) dX9_looked_121 rfl) ?_
  refine zst_ (gj_iload 5 (pc := 122) dX9_looked_122 rfl) ?_
  refine zst_ (gj_ishr (pc := 124) dX9_looked_124) ?_
  refine zst_ (gj_iconst (pc := 125) dX9_looked_125 (by decide)) ?_
  refine zst_ (gj_iand (pc := 126) dX9_looked_126) ?_
  refine gb_iast (pc := 127) dX9_looked_127 (fun σ5 => ?_)
  refine gb_iinc (pc := 128) 5 (fun y6 => [(5, zi y6), (4, zi y3), (0, zr x0), (1, zi x1), (2, zi x2), (3, zi x3), (6, zi x6)]) dX9_looked_128 rfl (by decide) (fun _ => rfl) (fun y6 => ?_)
  refine zst_ (gj_goto 249 (pc := 131) dX9_looked_131 (by decide)) ?_
  refine zst_ (gj_sub [2, 3, 4, 5, 1, 0, 6] rfl) ?_
  exact fun h => w_X9_looked_249 x0 x1 x2 x3 y3 y6 x6 σ5 h hk
noncomputable def f_X9_looked_248 (x0 x1 x2 x3 x4 x5 x6 t0 t1 t2 : Int) (σ : zM) : Option ((Int × Int × Int × Int × zM) ⊕ zO) :=
  (zpa σ 101 t2 t1 t0).bind fun σ1 =>
  f_X9_looked_249 x0 x1 x2 x3 x4 x5 x6 σ1
theorem w_X9_looked_248 {g : zG} {lv : Nat} {out : zO} (x0 x1 x2 x3 x4 x5 x6 t0 t1 t2 : Int) (σ : zM) {r : ((Int × Int × Int × Int × zM) ⊕ zO)} (h : f_X9_looked_248 x0 x1 x2 x3 x4 x5 x6 t0 t1 t2 σ = some r) (hk : (zKL (fun s : Int × Int × Int × Int × zM => Gj g MX9_looked (lv) 11 [(0, zr x0), (1, zi x1), (2, zi x2), (3, zi s.1), (4, zi s.2.1), (5, zi s.2.2.1), (6, zi s.2.2.2.1)] [] s.2.2.2.2 out) (fun o : zO => o = out)) r) : Gj g MX9_looked (lv) 248 [(0, zr x0), (1, zi x1), (2, zi x2), (3, zi x3), (4, zi x4), (5, zi x5), (6, zi x6)] [zi t0, zi t1, zr t2] σ out := by
  revert h
  unfold f_X9_looked_248
  refine gb_iast (pc := 248) dX9_looked_248 (fun σ1 => ?_)
  exact fun h => w_X9_looked_249 x0 x1 x2 x3 x4 x5 x6 σ1 h hk
noncomputable def f_X9_looked_11_b (x0 x1 x2 x3 x4 x5 x6 : Int) (σ : zM) : Option ((Int × Int × Int × Int × zM) ⊕ zO) :=
  (zgf σ 962 x0).bind fun v1 =>
  if v1 ≤ x6 then
    (f_X9_looked_255 x0 x4 σ).map (fun r => (.inr r))
  else
    (zgf σ 963 x0).bind fun v2 =>
    (zga σ 101 v2 x6).bind fun v3 =>
    if 8 ≤ v3 then
      if v3 ≠ 8 then
        if v3 = 14 then
          f_X9_looked_96 x0 x1 x2 x3 x4 x5 x6 σ
        else
          if v3 ≠ 15 then
            zlet (zadd x3 (-1)) fun y4 =>
            (zgf σ 960 x0).bind fun v5 =>
            (zga σ 101 v5 (zsub y4 1)).bind fun v6 =>
            (zgf σ 960 x0).bind fun v7 =>
            (zga σ 101 v7 y4).bind fun v8 =>
            if v3 < 12 then
              (zgf σ 960 x0).bind fun v9 =>
              if v3 ≠ 9 then
                if v3 ≠ 10 then
                  f_X9_looked_248 x0 x1 x2 y4 x4 x5 x6 (zor (zsub 1 v6) v8) (zsub y4 1) v9 σ
                else
                  f_X9_looked_248 x0 x1 x2 y4 x4 x5 x6 (zor v6 v8) (zsub y4 1) v9 σ
              else
                f_X9_looked_248 x0 x1 x2 y4 x4 x5 x6 (zand v6 v8) (zsub y4 1) v9 σ
            else
              zlet ((zor x4 (zor (zshl v6 (zmul 2 x5)) (zshl v8 (zadd (zmul 2 x5) 1))))) fun y10 =>
              (zgf σ 960 x0).bind fun v11 =>
              (zpa σ 101 v11 (zsub y4 1) (zand (zshr x2 x5) 1)).bind fun σ12 =>
              zlet (zadd x5 1) fun y13 =>
              f_X9_looked_249 x0 x1 x2 y4 y10 y13 x6 σ12
          else
            f_X9_looked_96 x0 x1 x2 x3 x4 x5 x6 σ
      else
        (zgf σ 960 x0).bind fun v14 =>
        (zgf σ 960 x0).bind fun v15 =>
        (zga σ 101 v15 (zsub x3 1)).bind fun v16 =>
        (zpa σ 101 v14 (zsub x3 1) (zsub 1 v16)).bind fun σ17 =>
        f_X9_looked_249 x0 x1 x2 x3 x4 x5 x6 σ17
    else
      (zgf σ 960 x0).bind fun v18 =>
      (zpa σ 101 v18 x3 (zand (zshr x1 v3) 1)).bind fun σ19 =>
      zlet (zadd x3 1) fun y20 =>
      f_X9_looked_249 x0 x1 x2 y20 x4 x5 x6 σ19
noncomputable def f_X9_looked_11 (x0 x1 x2 x3 x4 x5 x6 : Int) (σ : zM) : Option zO :=
  zloop (fun s : Int × Int × Int × Int × zM => f_X9_looked_11_b x0 x1 x2 s.1 s.2.1 s.2.2.1 s.2.2.2.1 s.2.2.2.2) (x3, x4, x5, x6, σ)
theorem w_X9_looked_11_b {g : zG} {lv : Nat} {out : zO} (x0 x1 x2 x3 x4 x5 x6 : Int) (σ : zM) {r : ((Int × Int × Int × Int × zM) ⊕ zO)} (h : f_X9_looked_11_b x0 x1 x2 x3 x4 x5 x6 σ = some r) (hk : (zKL (fun s : Int × Int × Int × Int × zM => Gj g MX9_looked (lv) 11 [(0, zr x0), (1, zi x1), (2, zi x2), (3, zi s.1), (4, zi s.2.1), (5, zi s.2.2.1), (6, zi s.2.2.2.1)] [] s.2.2.2.2 out) (fun o : zO => o = out)) r) : Gj g MX9_looked (lv) 11 [(0, zr x0), (1, zi x1), (2, zi x2), (3, zi x3), (4, zi x4), (5, zi x5), (6, zi x6)] [] σ out := by
  revert h
  unfold f_X9_looked_11_b
  refine zst_ (gj_iload 6 (pc := 11) dX9_looked_11 rfl) ?_
  refine zst_ (gj_aload_n 0 (pc := 13) dX9_looked_13 rfl) ?_
  refine gb_get (pc := 14) fl962 dX9_looked_14 q1944 (Or.inl rfl) (fun v1 => ?_)
  refine gb_if (gj_icmp_ge 255 (pc := 17) dX9_looked_17 (by decide)) ?_ ?_
  · refine zst_ (gj_sub [0, 4] rfl) ?_
    intro h
    obtain ⟨r0, h0, rfl⟩ := zmE h
    exact w_X9_looked_255 x0 x4 σ h0 hk
  · refine zst_ (gj_aload_n 0 (pc := 20) dX9_looked_20 rfl) ?_
    refine gb_get (pc := 21) fl963 dX9_looked_21 q1945 (Or.inl rfl) (fun v2 => ?_)
    refine zst_ (gj_iload 6 (pc := 24) dX9_looked_24 rfl) ?_
    refine gb_iald (pc := 26) dX9_looked_26 (fun v3 => ?_)
    refine zst_ (gj_istore (pc := 27) (ls' := [(7, zi v3), (0, zr x0), (1, zi x1), (2, zi x2), (3, zi x3), (4, zi x4), (5, zi x5), (6, zi x6)]) dX9_looked_27 (by decide) rfl) ?_
    refine zst_ (gj_iload 0 (pc := 29) dX9_looked_29 rfl) ?_
    refine zst_ (gj_bipush (pc := 31) dX9_looked_31 ⟨rfl, by decide⟩) ?_
    refine gb_if (gj_icmp_ge 54 (pc := 33) dX9_looked_33 (by decide)) ?_ ?_
    · refine zst_ (gj_iload 0 (pc := 54) dX9_looked_54 rfl) ?_
      refine zst_ (gj_bipush (pc := 56) dX9_looked_56 ⟨rfl, by decide⟩) ?_
      refine gb_if (gj_icmp_ne 82 (pc := 58) dX9_looked_58 (by decide)) ?_ ?_
      · refine zst_ (gj_iload 0 (pc := 82) dX9_looked_82 rfl) ?_
        refine zst_ (gj_bipush (pc := 84) dX9_looked_84 ⟨rfl, by decide⟩) ?_
        refine gb_if (gj_icmp_eq 96 (pc := 86) dX9_looked_86 (by decide)) ?_ ?_
        · refine zst_ (gj_sub [1, 2, 3, 4, 5, 6, 7] rfl) ?_
          exact fun h => w_X9_looked_96 x0 x1 x2 x3 x4 x5 x6 σ h hk
        · refine zst_ (gj_iload 0 (pc := 89) dX9_looked_89 rfl) ?_
          refine zst_ (gj_bipush (pc := 91) dX9_looked_91 ⟨rfl, by decide⟩) ?_
          refine gb_if (gj_icmp_ne 134 (pc := 93) dX9_looked_93 (by decide)) ?_ ?_
          · refine gb_iinc (pc := 134) 4 (fun y4 => [(3, zi y4), (7, zi v3), (0, zr x0), (1, zi x1), (2, zi x2), (4, zi x4), (5, zi x5), (6, zi x6)]) dX9_looked_134 rfl (by decide) (fun _ => rfl) (fun y4 => ?_)
            refine zst_ (gj_aload_n 2 (pc := 137) dX9_looked_137 rfl) ?_
            refine gb_get (pc := 138) fl960 dX9_looked_138 q1942 (Or.inl rfl) (fun v5 => ?_)
            refine zst_ (gj_iload_n 0 (pc := 141) dX9_looked_141 rfl) ?_
            refine zst_ (gj_iconst (pc := 142) dX9_looked_142 (by decide)) ?_
            refine zst_ (gj_isub (pc := 143) dX9_looked_143) ?_
            refine gb_iald (pc := 144) dX9_looked_144 (fun v6 => ?_)
            refine zst_ (gj_istore (pc := 145) (ls' := [(8, zi v6), (3, zi y4), (7, zi v3), (0, zr x0), (1, zi x1), (2, zi x2), (4, zi x4), (5, zi x5), (6, zi x6)]) dX9_looked_145 (by decide) rfl) ?_
            refine zst_ (gj_aload_n 3 (pc := 147) dX9_looked_147 rfl) ?_
            refine gb_get (pc := 148) fl960 dX9_looked_148 q1942 (Or.inl rfl) (fun v7 => ?_)
            refine zst_ (gj_iload_n 1 (pc := 151) dX9_looked_151 rfl) ?_
            refine gb_iald (pc := 152) dX9_looked_152 (fun v8 => ?_)
            refine zst_ (gj_istore (pc := 153) (ls' := [(9, zi v8), (8, zi v6), (3, zi y4), (7, zi v3), (0, zr x0), (1, zi x1), (2, zi x2), (4, zi x4), (5, zi x5), (6, zi x6)]) dX9_looked_153 (by decide) rfl) ?_
            refine zst_ (gj_iload 3 (pc := 155) dX9_looked_155 rfl) ?_
            refine zst_ (gj_bipush (pc := 157) dX9_looked_157 ⟨rfl, by decide⟩) ?_
            refine gb_if (gj_icmp_lt 204 (pc := 159) dX9_looked_159 (by decide)) ?_ ?_
            · refine zst_ (gj_aload_n 4 (pc := 204) dX9_looked_204 rfl) ?_
              refine gb_get (pc := 205) fl960 dX9_looked_205 q1942 (Or.inl rfl) (fun v9 => ?_)
              refine zst_ (gj_iload_n 2 (pc := 208) dX9_looked_208 rfl) ?_
              refine zst_ (gj_iconst (pc := 209) dX9_looked_209 (by decide)) ?_
              refine zst_ (gj_isub (pc := 210) dX9_looked_210) ?_
              refine zst_ (gj_iload 3 (pc := 211) dX9_looked_211 rfl) ?_
              refine zst_ (gj_bipush (pc := 213) dX9_looked_213 ⟨rfl, by decide⟩) ?_
              refine gb_if (gj_icmp_ne 226 (pc := 215) dX9_looked_215 (by decide)) ?_ ?_
              · refine zst_ (gj_iload 3 (pc := 226) dX9_looked_226 rfl) ?_
                refine zst_ (gj_bipush (pc := 228) dX9_looked_228 ⟨rfl, by decide⟩) ?_
                refine gb_if (gj_icmp_ne 241 (pc := 230) dX9_looked_230 (by decide)) ?_ ?_
                · refine zst_ (gj_iconst (pc := 241) dX9_looked_241 (by decide)) ?_
                  refine zst_ (gj_iload 1 (pc := 242) dX9_looked_242 rfl) ?_
                  refine zst_ (gj_isub (pc := 244) dX9_looked_244) ?_
                  refine zst_ (gj_iload 0 (pc := 245) dX9_looked_245 rfl) ?_
                  refine zst_ (gj_ior (pc := 247) dX9_looked_247) ?_
                  refine zst_ (gj_sub [4, 5, 6, 2, 7, 8, 9] rfl) ?_
                  exact fun h => w_X9_looked_248 x0 x1 x2 y4 x4 x5 x6 (zor (zsub 1 v6) v8) (zsub y4 1) v9 σ h hk
                · refine zst_ (gj_iload 1 (pc := 233) dX9_looked_233 rfl) ?_
                  refine zst_ (gj_iload 0 (pc := 235) dX9_looked_235 rfl) ?_
                  refine zst_ (gj_ior (pc := 237) dX9_looked_237) ?_
                  refine zst_ (gj_goto 248 (pc := 238) dX9_looked_238 (by decide)) ?_
                  refine zst_ (gj_sub [4, 5, 6, 2, 7, 8, 9] rfl) ?_
                  exact fun h => w_X9_looked_248 x0 x1 x2 y4 x4 x5 x6 (zor v6 v8) (zsub y4 1) v9 σ h hk
              · refine zst_ (gj_iload 1 (pc := 218) dX9_looked_218 rfl) ?_
                refine zst_ (gj_iload 0 (pc := 220) dX9_looked_220 rfl) ?_
                refine zst_ (gj_iand (pc := 222) dX9_looked_222) ?_
                refine zst_ (gj_goto 248 (pc := 223) dX9_looked_223 (by decide)) ?_
                refine zst_ (gj_sub [4, 5, 6, 2, 7, 8, 9] rfl) ?_
                exact fun h => w_X9_looked_248 x0 x1 x2 y4 x4 x5 x6 (zand v6 v8) (zsub y4 1) v9 σ h hk
            · refine zst_ (gj_iload 7 (pc := 162) dX9_looked_162 rfl) ?_
              refine zst_ (gj_iload 1 (pc := 164) dX9_looked_164 rfl) ?_
              refine zst_ (gj_iconst (pc := 166) dX9_looked_166 (by decide)) ?_
              refine zst_ (gj_iload 8 (pc := 167) dX9_looked_167 rfl) ?_
              refine zst_ (gj_imul (pc := 169) dX9_looked_169) ?_
              refine zst_ (gj_ishl (pc := 170) dX9_looked_170) ?_
              refine zst_ (gj_iload 0 (pc := 171) dX9_looked_171 rfl) ?_
              refine zst_ (gj_iconst (pc := 173) dX9_looked_173 (by decide)) ?_
              refine zst_ (gj_iload 8 (pc := 174) dX9_looked_174 rfl) ?_
              refine zst_ (gj_imul (pc := 176) dX9_looked_176) ?_
              refine zst_ (gj_iconst (pc := 177) dX9_looked_177 (by decide)) ?_
              refine zst_ (gj_iadd (pc := 178) dX9_looked_178) ?_
              refine zst_ (gj_ishl (pc := 179) dX9_looked_179) ?_
              refine zst_ (gj_ior (pc := 180) dX9_looked_180) ?_
              refine zst_ (gj_ior (pc := 181) dX9_looked_181) ?_
              refine gb_let (fun y10 => ?_)
              refine zst_ (gj_istore (pc := 182) (ls' := [(4, zi y10), (9, zi v8), (8, zi v6), (3, zi y4), (7, zi v3), (0, zr x0), (1, zi x1), (2, zi x2), (5, zi x5), (6, zi x6)]) dX9_looked_182 (by decide) rfl) ?_
              refine zst_ (gj_aload_n 5 (pc := 184) dX9_looked_184 rfl) ?_
              refine gb_get (pc := 185) fl960 dX9_looked_185 q1942 (Or.inl rfl) (fun v11 => ?_)
              refine zst_ (gj_iload_n 3 (pc := 188) dX9_looked_188 rfl) ?_
              refine zst_ (gj_iconst (pc := 189) dX9_looked_189 (by decide)) ?_
              refine zst_ (gj_isub (pc := 190) dX9_looked_190) ?_
              refine zst_ (gj_iload_n 7 (pc := 191) dX9_looked_191 rfl) ?_
              refine zst_ (gj_iload 8 (pc := 192) dX9_looked_192 rfl) ?_
              refine zst_ (gj_ishr (pc := 194) dX9_looked_194) ?_
              refine zst_ (gj_iconst (pc := 195) dX9_looked_195 (by decide)) ?_
              refine zst_ (gj_iand (pc := 196) dX9_looked_196) ?_
              refine gb_iast (pc := 197) dX9_looked_197 (fun σ12 => ?_)
              refine gb_iinc (pc := 198) 8 (fun y13 => [(5, zi y13), (4, zi y10), (9, zi v8), (8, zi v6), (3, zi y4), (7, zi v3), (0, zr x0), (1, zi x1), (2, zi x2), (6, zi x6)]) dX9_looked_198 rfl (by decide) (fun _ => rfl) (fun y13 => ?_)
              refine zst_ (gj_goto 249 (pc := 201) dX9_looked_201 (by decide)) ?_
              refine zst_ (gj_sub [6, 7, 8, 4, 1, 0, 9] rfl) ?_
              exact fun h => w_X9_looked_249 x0 x1 x2 y4 y10 y13 x6 σ12 h hk
          · refine zst_ (gj_sub [1, 2, 3, 4, 5, 6, 7] rfl) ?_
            exact fun h => w_X9_looked_96 x0 x1 x2 x3 x4 x5 x6 σ h hk
      · refine zst_ (gj_aload_n 1 (pc := 61) dX9_looked_61 rfl) ?_
        refine gb_get (pc := 62) fl960 dX9_looked_62 q1942 (Or.inl rfl) (fun v14 => ?_)
        refine zst_ (gj_iload_n 4 (pc := 65) dX9_looked_65 rfl) ?_
        refine zst_ (gj_iconst (pc := 66) dX9_looked_66 (by decide)) ?_
        refine zst_ (gj_isub (pc := 67) dX9_looked_67) ?_
        refine zst_ (gj_iconst (pc := 68) dX9_looked_68 (by decide)) ?_
        refine zst_ (gj_aload_n 1 (pc := 69) dX9_looked_69 rfl) ?_
        refine gb_get (pc := 70) fl960 dX9_looked_70 q1942 (Or.inl rfl) (fun v15 => ?_)
        refine zst_ (gj_iload_n 4 (pc := 73) dX9_looked_73 rfl) ?_
        refine zst_ (gj_iconst (pc := 74) dX9_looked_74 (by decide)) ?_
        refine zst_ (gj_isub (pc := 75) dX9_looked_75) ?_
        refine gb_iald (pc := 76) dX9_looked_76 (fun v16 => ?_)
        refine zst_ (gj_isub (pc := 77) dX9_looked_77) ?_
        refine gb_iast (pc := 78) dX9_looked_78 (fun σ17 => ?_)
        refine zst_ (gj_goto 249 (pc := 79) dX9_looked_79 (by decide)) ?_
        refine zst_ (gj_sub [1, 2, 3, 4, 5, 6, 7] rfl) ?_
        exact fun h => w_X9_looked_249 x0 x1 x2 x3 x4 x5 x6 σ17 h hk
    · refine zst_ (gj_aload_n 1 (pc := 36) dX9_looked_36 rfl) ?_
      refine gb_get (pc := 37) fl960 dX9_looked_37 q1942 (Or.inl rfl) (fun v18 => ?_)
      refine zst_ (gj_iload_n 4 (pc := 40) dX9_looked_40 rfl) ?_
      refine zst_ (gj_iload_n 2 (pc := 41) dX9_looked_41 rfl) ?_
      refine zst_ (gj_iload 0 (pc := 42) dX9_looked_42 rfl) ?_
      refine zst_ (gj_ishr (pc := 44) dX9_looked_44) ?_
      refine zst_ (gj_iconst (pc := 45) dX9_looked_45 (by decide)) ?_
      refine zst_ (gj_iand (pc := 46) dX9_looked_46) ?_
      refine gb_iast (pc := 47) dX9_looked_47 (fun σ19 => ?_)
      refine gb_iinc (pc := 48) 4 (fun y20 => [(3, zi y20), (7, zi v3), (0, zr x0), (1, zi x1), (2, zi x2), (4, zi x4), (5, zi x5), (6, zi x6)]) dX9_looked_48 rfl (by decide) (fun _ => rfl) (fun y20 => ?_)
      refine zst_ (gj_goto 249 (pc := 51) dX9_looked_51 (by decide)) ?_
      refine zst_ (gj_sub [2, 3, 4, 0, 5, 6, 7] rfl) ?_
      exact fun h => w_X9_looked_249 x0 x1 x2 y20 x4 x5 x6 σ19 h hk
theorem w_X9_looked_11 {g : zG} {lv : Nat} {out : zO} (x0 x1 x2 x3 x4 x5 x6 : Int) (σ : zM) {r : zO} (h : f_X9_looked_11 x0 x1 x2 x3 x4 x5 x6 σ = some r) (hk : (fun o : zO => o = out) r) : Gj g MX9_looked (lv) 11 [(0, zr x0), (1, zi x1), (2, zi x2), (3, zi x3), (4, zi x4), (5, zi x5), (6, zi x6)] [] σ out :=
  gj_loop (P := (fun s : Int × Int × Int × Int × zM => Gj g MX9_looked (lv) 11 [(0, zr x0), (1, zi x1), (2, zi x2), (3, zi s.1), (4, zi s.2.1), (5, zi s.2.2.1), (6, zi s.2.2.2.1)] [] s.2.2.2.2 out)) (fun s x hb hx => w_X9_looked_11_b x0 x1 x2 s.1 s.2.1 s.2.2.1 s.2.2.2.1 s.2.2.2.2 hb hx) h hk
noncomputable def f_X9_looked (x0 x1 x2 : Int) (σ : zM) : Option zO :=
  f_X9_looked_11 x0 x1 x2 0 0 0 0 σ
theorem c_X9_looked {g : zG} {lv : Nat} {x0 x1 x2 : Int} {σ : zM} {out : zO} (h : f_X9_looked x0 x1 x2 σ = some out) : Cj g (lv) MX9_looked [zr x0, zi x1, zi x2] σ out := by
  refine cj_go (ls := [(0, zr x0), (1, zi x1), (2, zi x2)]) (by decide) (Nat.le_of_ble_eq_true rfl) rfl (zgen h (fun r hk => ?_))
  unfold f_X9_looked
  refine zst_ (gj_iconst (pc := 0) dX9_looked_0 (by decide)) ?_
  refine zst_ (gj_istore_n (pc := 1) (ls' := [(3, zi 0), (0, zr x0), (1, zi x1), (2, zi x2)]) dX9_looked_1 (by decide) rfl) ?_
  refine zst_ (gj_iconst (pc := 2) dX9_looked_2 (by decide)) ?_
  refine zst_ (gj_istore (pc := 3) (ls' := [(4, zi 0), (3, zi 0), (0, zr x0), (1, zi x1), (2, zi x2)]) dX9_looked_3 (by decide) rfl) ?_
  refine zst_ (gj_iconst (pc := 5) dX9_looked_5 (by decide)) ?_
  refine zst_ (gj_istore (pc := 6) (ls' := [(5, zi 0), (4, zi 0), (3, zi 0), (0, zr x0), (1, zi x1), (2, zi x2)]) dX9_looked_6 (by decide) rfl) ?_
  refine zst_ (gj_iconst (pc := 8) dX9_looked_8 (by decide)) ?_
  refine zst_ (gj_istore (pc := 9) (ls' := [(6, zi 0), (5, zi 0), (4, zi 0), (3, zi 0), (0, zr x0), (1, zi x1), (2, zi x2)]) dX9_looked_9 (by decide) rfl) ?_
  refine zst_ (gj_sub [4, 5, 6, 3, 2, 1, 0] rfl) ?_
  exact fun h => w_X9_looked_11 x0 x1 x2 0 0 0 0 σ h hk

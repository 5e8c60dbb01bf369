set_option maxRecDepth 100000
theorem q1941 : (Jvm.Cond.fieldLink "LassoFinderModel" (301 : Nat) "LassoFinderModel" "holds" "I") ∈ lw_all := lw_g (lw_at lw_m8 161 rfl) rfl
theorem q2244 : (Jvm.Cond.code ({ cls := "LassoFinderModel", name := "packed", desc := "()J" } : Jvm.MethodName) prog_22_method_28_code (5 : Nat) (Option.some Jvm.ClassFile.FieldType.long)) ∈ lw_all := lw_g (lw_at lw_m9 224 rfl) rfl
theorem fl959 : zfl 959 0 "LassoFinderModel" "holds" "I" false := ⟨rfl, rfl, rfl⟩
theorem fr959 {g : zG} {v : Int} : zok g (0, v) → zokt g (zft 959) v := fun h => h
abbrev cX9_packed : ByteArray := prog_22_method_28_code
def yX9_packed : MethodName := ⟨RX9, "packed", "()J"⟩
theorem dX9_packed_0 : decode cX9_packed 0 = .ok (.lconst 0, 1) := by decide +kernel
theorem dX9_packed_1 : decode cX9_packed 1 = .ok (.lstore_n 1, 1) := by decide +kernel
theorem dX9_packed_2 : decode cX9_packed 2 = .ok (.iconst 0, 1) := by decide +kernel
theorem dX9_packed_3 : decode cX9_packed 3 = .ok (.istore_n 3, 1) := by decide +kernel
theorem dX9_packed_4 : decode cX9_packed 4 = .ok (.iload_n 3, 1) := by decide +kernel
theorem dX9_packed_5 : decode cX9_packed 5 = .ok (.aload_n 0, 1) := by decide +kernel
theorem dX9_packed_6 : decode cX9_packed 6 = .ok (.getfield 241, 3) := by decide +kernel
theorem dX9_packed_9 : decode cX9_packed 9 = .ok (.if_icmp .ge 23, 3) := by decide +kernel
theorem dX9_packed_12 : decode cX9_packed 12 = .ok (.lload_n 1, 1) := by decide +kernel
theorem dX9_packed_13 : decode cX9_packed 13 = .ok (.aload_n 0, 1) := by decide +kernel
theorem dX9_packed_14 : decode cX9_packed 14 = .ok (.getfield 130, 3) := by decide +kernel
theorem dX9_packed_17 : decode cX9_packed 17 = .ok (.iload_n 3, 1) := by decide +kernel
theorem dX9_packed_18 : decode cX9_packed 18 = .ok (.iaload, 1) := by decide +kernel
theorem dX9_packed_19 : decode cX9_packed 19 = .ok (.i2l, 1) := by decide +kernel
theorem dX9_packed_20 : decode cX9_packed 20 = .ok (.iconst 3, 1) := by decide +kernel
theorem dX9_packed_21 : decode cX9_packed 21 = .ok (.iload_n 3, 1) := by decide +kernel
theorem dX9_packed_22 : decode cX9_packed 22 = .ok (.imul, 1) := by decide +kernel
theorem dX9_packed_23 : decode cX9_packed 23 = .ok (.lshl, 1) := by decide +kernel
theorem dX9_packed_24 : decode cX9_packed 24 = .ok (.lor, 1) := by decide +kernel
theorem dX9_packed_25 : decode cX9_packed 25 = .ok (.lstore_n 1, 1) := by decide +kernel
theorem dX9_packed_26 : decode cX9_packed 26 = .ok (.iinc 3 1, 3) := by decide +kernel
theorem dX9_packed_29 : decode cX9_packed 29 = .ok (.goto (-25), 3) := by decide +kernel
theorem dX9_packed_32 : decode cX9_packed 32 = .ok (.iconst 0, 1) := by decide +kernel
theorem dX9_packed_33 : decode cX9_packed 33 = .ok (.istore_n 3, 1) := by decide +kernel
theorem dX9_packed_34 : decode cX9_packed 34 = .ok (.iload_n 3, 1) := by decide +kernel
theorem dX9_packed_35 : decode cX9_packed 35 = .ok (.aload_n 0, 1) := by decide +kernel
theorem dX9_packed_36 : decode cX9_packed 36 = .ok (.getfield 238, 3) := by decide +kernel
theorem dX9_packed_39 : decode cX9_packed 39 = .ok (.if_icmp .ge 75, 3) := by decide +kernel
theorem dX9_packed_42 : decode cX9_packed 42 = .ok (.lload_n 1, 1) := by decide +kernel
theorem dX9_packed_43 : decode cX9_packed 43 = .ok (.aload_n 0, 1) := by decide +kernel
theorem dX9_packed_44 : decode cX9_packed 44 = .ok (.getfield 133, 3) := by decide +kernel
theorem dX9_packed_47 : decode cX9_packed 47 = .ok (.iload_n 3, 1) := by decide +kernel
theorem dX9_packed_48 : decode cX9_packed 48 = .ok (.iaload, 1) := by decide +kernel
theorem dX9_packed_49 : decode cX9_packed 49 = .ok (.i2l, 1) := by decide +kernel
theorem dX9_packed_50 : decode cX9_packed 50 = .ok (.bipush 18, 2) := by decide +kernel
theorem dX9_packed_52 : decode cX9_packed 52 = .ok (.bipush 11, 2) := by decide +kernel
theorem dX9_packed_54 : decode cX9_packed 54 = .ok (.iload_n 3, 1) := by decide +kernel
theorem dX9_packed_55 : decode cX9_packed 55 = .ok (.imul, 1) := by decide +kernel
theorem dX9_packed_56 : decode cX9_packed 56 = .ok (.iadd, 1) := by decide +kernel
theorem dX9_packed_57 : decode cX9_packed 57 = .ok (.lshl, 1) := by decide +kernel
theorem dX9_packed_58 : decode cX9_packed 58 = .ok (.lor, 1) := by decide +kernel
theorem dX9_packed_59 : decode cX9_packed 59 = .ok (.lstore_n 1, 1) := by decide +kernel
theorem dX9_packed_60 : decode cX9_packed 60 = .ok (.iconst 0, 1) := by decide +kernel
theorem dX9_packed_61 : decode cX9_packed 61 = .ok (.istore 4, 2) := by decide +kernel
theorem dX9_packed_63 : decode cX9_packed 63 = .ok (.iload 4, 2) := by decide +kernel
theorem dX9_packed_65 : decode cX9_packed 65 = .ok (.aload_n 0, 1) := by decide +kernel
theorem dX9_packed_66 : decode cX9_packed 66 = .ok (.getfield 133, 3) := by decide +kernel
theorem dX9_packed_69 : decode cX9_packed 69 = .ok (.iload_n 3, 1) := by decide +kernel
theorem dX9_packed_70 : decode cX9_packed 70 = .ok (.iaload, 1) := by decide +kernel
theorem dX9_packed_71 : decode cX9_packed 71 = .ok (.if_icmp .ge 37, 3) := by decide +kernel
theorem dX9_packed_74 : decode cX9_packed 74 = .ok (.lload_n 1, 1) := by decide +kernel
theorem dX9_packed_75 : decode cX9_packed 75 = .ok (.aload_n 0, 1) := by decide +kernel
theorem dX9_packed_76 : decode cX9_packed 76 = .ok (.getfield 136, 3) := by decide +kernel
theorem dX9_packed_79 : decode cX9_packed 79 = .ok (.iconst 3, 1) := by decide +kernel
theorem dX9_packed_80 : decode cX9_packed 80 = .ok (.iload_n 3, 1) := by decide +kernel
theorem dX9_packed_81 : decode cX9_packed 81 = .ok (.imul, 1) := by decide +kernel
theorem dX9_packed_82 : decode cX9_packed 82 = .ok (.iload 4, 2) := by decide +kernel
theorem dX9_packed_84 : decode cX9_packed 84 = .ok (.iadd, 1) := by decide +kernel
theorem dX9_packed_85 : decode cX9_packed 85 = .ok (.iaload, 1) := by decide +kernel
theorem dX9_packed_86 : decode cX9_packed 86 = .ok (.i2l, 1) := by decide +kernel
theorem dX9_packed_87 : decode cX9_packed 87 = .ok (.bipush 20, 2) := by decide +kernel
theorem dX9_packed_89 : decode cX9_packed 89 = .ok (.bipush 11, 2) := by decide +kernel
theorem dX9_packed_91 : decode cX9_packed 91 = .ok (.iload_n 3, 1) := by decide +kernel
theorem dX9_packed_92 : decode cX9_packed 92 = .ok (.imul, 1) := by decide +kernel
theorem dX9_packed_93 : decode cX9_packed 93 = .ok (.iadd, 1) := by decide +kernel
theorem dX9_packed_94 : decode cX9_packed 94 = .ok (.iconst 3, 1) := by decide +kernel
theorem dX9_packed_95 : decode cX9_packed 95 = .ok (.iload 4, 2) := by decide +kernel
theorem dX9_packed_97 : decode cX9_packed 97 = .ok (.imul, 1) := by decide +kernel
theorem dX9_packed_98 : decode cX9_packed 98 = .ok (.iadd, 1) := by decide +kernel
theorem dX9_packed_99 : decode cX9_packed 99 = .ok (.lshl, 1) := by decide +kernel
theorem dX9_packed_100 : decode cX9_packed 100 = .ok (.lor, 1) := by decide +kernel
theorem dX9_packed_101 : decode cX9_packed 101 = .ok (.lstore_n 1, 1) := by decide +kernel
theorem dX9_packed_102 : decode cX9_packed 102 = .ok (.iinc 4 1, 3) := by decide +kernel
theorem dX9_packed_105 : decode cX9_packed 105 = .ok (.goto (-42), 3) := by decide +kernel
theorem dX9_packed_108 : decode cX9_packed 108 = .ok (.iinc 3 1, 3) := by decide +kernel
theorem dX9_packed_111 : decode cX9_packed 111 = .ok (.goto (-77), 3) := by decide +kernel
theorem dX9_packed_114 : decode cX9_packed 114 = .ok (.iconst 0, 1) := by decide +kernel
theorem dX9_packed_115 : decode cX9_packed 115 = .ok (.istore_n 3, 1) := by decide +kernel
theorem dX9_packed_116 : decode cX9_packed 116 = .ok (.iload_n 3, 1) := by decide +kernel
theorem dX9_packed_117 : decode cX9_packed 117 = .ok (.aload_n 0, 1) := by decide +kernel
theorem dX9_packed_118 : decode cX9_packed 118 = .ok (.getfield 254, 3) := by decide +kernel
theorem dX9_packed_121 : decode cX9_packed 121 = .ok (.if_icmp .ge 26, 3) := by decide +kernel
theorem dX9_packed_124 : decode cX9_packed 124 = .ok (.lload_n 1, 1) := by decide +kernel
theorem dX9_packed_125 : decode cX9_packed 125 = .ok (.aload_n 0, 1) := by decide +kernel
theorem dX9_packed_126 : decode cX9_packed 126 = .ok (.getfield 139, 3) := by decide +kernel
theorem dX9_packed_129 : decode cX9_packed 129 = .ok (.iload_n 3, 1) := by decide +kernel
theorem dX9_packed_130 : decode cX9_packed 130 = .ok (.iaload, 1) := by decide +kernel
theorem dX9_packed_131 : decode cX9_packed 131 = .ok (.i2l, 1) := by decide +kernel
theorem dX9_packed_132 : decode cX9_packed 132 = .ok (.bipush 40, 2) := by decide +kernel
theorem dX9_packed_134 : decode cX9_packed 134 = .ok (.iconst 5, 1) := by decide +kernel
theorem dX9_packed_135 : decode cX9_packed 135 = .ok (.iload_n 3, 1) := by decide +kernel
theorem dX9_packed_136 : decode cX9_packed 136 = .ok (.imul, 1) := by decide +kernel
theorem dX9_packed_137 : decode cX9_packed 137 = .ok (.iadd, 1) := by decide +kernel
theorem dX9_packed_138 : decode cX9_packed 138 = .ok (.lshl, 1) := by decide +kernel
theorem dX9_packed_139 : decode cX9_packed 139 = .ok (.lor, 1) := by decide +kernel
theorem dX9_packed_140 : decode cX9_packed 140 = .ok (.lstore_n 1, 1) := by decide +kernel
theorem dX9_packed_141 : decode cX9_packed 141 = .ok (.iinc 3 1, 3) := by decide +kernel
theorem dX9_packed_144 : decode cX9_packed 144 = .ok (.goto (-28), 3) := by decide +kernel
theorem dX9_packed_147 : decode cX9_packed 147 = .ok (.lload_n 1, 1) := by decide +kernel
theorem dX9_packed_148 : decode cX9_packed 148 = .ok (.aload_n 0, 1) := by decide +kernel
theorem dX9_packed_149 : decode cX9_packed 149 = .ok (.getfield 301, 3) := by decide +kernel
theorem dX9_packed_152 : decode cX9_packed 152 = .ok (.iconst 1, 1) := by decide +kernel
theorem dX9_packed_153 : decode cX9_packed 153 = .ok (.iadd, 1) := by decide +kernel
theorem dX9_packed_154 : decode cX9_packed 154 = .ok (.i2l, 1) := by decide +kernel
theorem dX9_packed_155 : decode cX9_packed 155 = .ok (.bipush 60, 2) := by decide +kernel
theorem dX9_packed_157 : decode cX9_packed 157 = .ok (.lshl, 1) := by decide +kernel
theorem dX9_packed_158 : decode cX9_packed 158 = .ok (.lor, 1) := by decide +kernel
theorem dX9_packed_159 : decode cX9_packed 159 = .ok (.lreturn, 1) := by decide +kernel
abbrev MX9_packed : zT := (yX9_packed, cX9_packed, 5, (Option.some Jvm.ClassFile.FieldType.long), [])
theorem plX9_packed : zplain MX9_packed 0 ∧ (zcodeW MX9_packed ∈ lw_all ∧ Cond.initialized MX9_packed.1.cls ∈ lw_all) := ⟨⟨by decide +kernel, by decide +kernel⟩, q2244, q127⟩
noncomputable def f_X9_packed_147 (x0 x1 : Int) (σ : zM) : Option zO :=
  (zgf σ 959 x0).bind fun v1 =>
  some (0, zj (jor x1 (jshl (zadd v1 1) 60)), σ)
theorem w_X9_packed_147 {g : zG} {lv : Nat} {out : zO} (x0 x1 : Int) (σ : zM) {r : zO} (h : f_X9_packed_147 x0 x1 σ = some r) (hk : (fun o : zO => o = out) r) : Gj g MX9_packed (lv) 147 [(0, zr x0), (1, zj x1)] [] σ out := by
  revert h
  unfold f_X9_packed_147
  refine zst_ (gj_lload_n 1 (pc := 147) dX9_packed_147 rfl) ?_
  refine zst_ (gj_aload_n 0 (pc := 148) dX9_packed_148 rfl) ?_
  refine gb_get (pc := 149) fl959 dX9_packed_149 q1941 (Or.inl rfl) (fun v1 => ?_)
  refine zst_ (gj_iconst (pc := 152) dX9_packed_152 (by decide)) ?_
  refine zst_ (gj_iadd (pc := 153) dX9_packed_153) ?_
  refine zst_ (gj_i2l (pc := 154) dX9_packed_154) ?_
  refine zst_ (gj_bipush (pc := 155) dX9_packed_155 ⟨rfl, by decide⟩) ?_
  refine zst_ (gj_lshl (pc := 157) dX9_packed_157) ?_
  refine zst_ (gj_lor (pc := 158) dX9_packed_158) ?_
  intro h
  cases h
  have hk : (0, zj (jor x1 (jshl (zadd v1 1) 60)), σ) = out := hk
  subst hk
  exact gj_lret (pc := 159) dX9_packed_159 rfl
noncomputable def f_X9_packed_116_b (x0 x1 x3 : Int) (σ : zM) : Option ((Int × Int) ⊕ zO) :=
  (zgf σ 930 x0).bind fun v1 =>
  if v1 ≤ x3 then
    (f_X9_packed_147 x0 x1 σ).map (fun r => (.inr r))
  else
    (zgf σ 958 x0).bind fun v2 =>
    (zga σ 101 v2 x3).bind fun v3 =>
    zlet ((jor x1 (jshl v3 (zadd 40 (zmul 5 x3))))) fun y4 =>
    zlet (zadd x3 1) fun y5 =>
    some (.inl (y4, y5))
noncomputable def f_X9_packed_116 (x0 x1 x3 : Int) (σ : zM) : Option zO :=
  zloop (fun s : Int × Int => f_X9_packed_116_b x0 s.1 s.2 σ) (x1, x3)
theorem w_X9_packed_116_b {g : zG} {lv : Nat} {out : zO} (x0 x1 x3 : Int) (σ : zM) {r : ((Int × Int) ⊕ zO)} (h : f_X9_packed_116_b x0 x1 x3 σ = some r) (hk : (zKL (fun s : Int × Int => Gj g MX9_packed (lv) 116 [(0, zr x0), (1, zj s.1), (3, zi s.2)] [] σ out) (fun o : zO => o = out)) r) : Gj g MX9_packed (lv) 116 [(0, zr x0), (1, zj x1), (3, zi x3)] [] σ out := by
  revert h
  unfold f_X9_packed_116_b
  refine zst_ (gj_iload_n 2 (pc := 116) dX9_packed_116 rfl) ?_
  refine zst_ (gj_aload_n 0 (pc := 117) dX9_packed_117 rfl) ?_
  refine gb_get (pc := 118) fl930 dX9_packed_118 q1912 (Or.inl rfl) (fun v1 => ?_)
  refine gb_if (gj_icmp_ge 147 (pc := 121) dX9_packed_121 (by decide)) ?_ ?_
  · refine zst_ (gj_sub [0, 1] rfl) ?_
    intro h
    obtain ⟨r0, h0, rfl⟩ := zmE h
    exact w_X9_packed_147 x0 x1 σ h0 hk
  · refine zst_ (gj_lload_n 1 (pc := 124) dX9_packed_124 rfl) ?_
    refine zst_ (gj_aload_n 0 (pc := 125) dX9_packed_125 rfl) ?_
    refine gb_get (pc := 126) fl958 dX9_packed_126 q1940 (Or.inl rfl) (fun v2 => ?_)
    refine zst_ (gj_iload_n 2 (pc := 129) dX9_packed_129 rfl) ?_
    refine gb_iald (pc := 130) dX9_packed_130 (fun v3 => ?_)
    refine zst_ (gj_i2l (pc := 131) dX9_packed_131) ?_
    refine zst_ (gj_bipush (pc := 132) dX9_packed_132 ⟨rfl, by decide⟩) ?_
    refine zst_ (gj_iconst (pc := 134) dX9_packed_134 (by decide)) ?_
    refine zst_ (gj_iload_n 2 (pc := 135) dX9_packed_135 rfl) ?_
    refine zst_ (gj_imul (pc := 136) dX9_packed_136) ?_
    refine zst_ (gj_iadd (pc := 137) dX9_packed_137) ?_
    refine zst_ (gj_lshl (pc := 138) dX9_packed_138) ?_
    refine zst_ (gj_lor (pc := 139) dX9_packed_139) ?_
    refine gb_let (fun y4 => ?_)
    refine zst_ (gj_lstore_n (pc := 140) (ls' := [(1, zj y4), (0, zr x0), (3, zi x3)]) dX9_packed_140 (by decide) rfl) ?_
    refine gb_iinc (pc := 141) 2 (fun y5 => [(3, zi y5), (1, zj y4), (0, zr x0)]) dX9_packed_141 rfl (by decide) (fun _ => rfl) (fun y5 => ?_)
    refine zst_ (gj_goto 116 (pc := 144) dX9_packed_144 (by decide)) ?_
    refine zst_ (gj_sub [2, 1, 0] rfl) ?_
    intro h
    cases h
    exact hk
theorem w_X9_packed_116 {g : zG} {lv : Nat} {out : zO} (x0 x1 x3 : Int) (σ : zM) {r : zO} (h : f_X9_packed_116 x0 x1 x3 σ = some r) (hk : (fun o : zO => o = out) r) : Gj g MX9_packed (lv) 116 [(0, zr x0), (1, zj x1), (3, zi x3)] [] σ out :=
  gj_loop (P := (fun s : Int × Int => Gj g MX9_packed (lv) 116 [(0, zr x0), (1, zj s.1), (3, zi s.2)] [] σ out)) (fun s x hb hx => w_X9_packed_116_b x0 s.1 s.2 σ hb hx) h hk
noncomputable def f_X9_packed_114 (x0 x1 : Int) (σ : zM) : Option zO :=
  f_X9_packed_116 x0 x1 0 σ
theorem w_X9_packed_114 {g : zG} {lv : Nat} {out : zO} (x0 x1 : Int) (σ : zM) {r : zO} (h : f_X9_packed_114 x0 x1 σ = some r) (hk : (fun o : zO => o = out) r) : Gj g MX9_packed (lv) 114 [(0, zr x0), (1, zj x1)] [] σ out := by
  revert h
  unfold f_X9_packed_114
  refine zst_ (gj_iconst (pc := 114) dX9_packed_114 (by decide)) ?_
  refine zst_ (gj_istore_n (pc := 115) (ls' := [(3, zi 0), (0, zr x0), (1, zj x1)]) dX9_packed_115 (by decide) rfl) ?_
  refine zst_ (gj_sub [1, 2, 0] rfl) ?_
  exact fun h => w_X9_packed_116 x0 x1 0 σ h hk
noncomputable def f_X9_packed_108 (x0 x1 x3 : Int) (σ : zM) : Option ((Int × Int) ⊕ zO) :=
  zlet (zadd x3 1) fun y1 =>
  some (.inl (x1, y1))
theorem w_X9_packed_108 {g : zG} {lv : Nat} {out : zO} (x0 x1 x3 : Int) (σ : zM) {r : ((Int × Int) ⊕ zO)} (h : f_X9_packed_108 x0 x1 x3 σ = some r) (hk : (zKL (fun s : Int × Int => Gj g MX9_packed (lv) 34 [(0, zr x0), (1, zj s.1), (3, zi s.2)] [] σ out) (fun o : zO => o = out)) r) : Gj g MX9_packed (lv) 108 [(0, zr x0), (1, zj x1), (3, zi x3)] [] σ out := by
  revert h
  unfold f_X9_packed_108
  refine gb_iinc (pc := 108) 2 (fun y1 => [(3, zi y1), (0, zr x0), (1, zj x1)]) dX9_packed_108 rfl (by decide) (fun _ => rfl) (fun y1 => ?_)
  refine zst_ (gj_goto 34 (pc := 111) dX9_packed_111 (by decide)) ?_
  refine zst_ (gj_sub [1, 2, 0] rfl) ?_
  intro h
  cases h
  exact hk
noncomputable def f_X9_packed_63_b (x0 x1 x3 x4 : Int) (σ : zM) : Option ((Int × Int) ⊕ ((Int × Int) ⊕ zO)) :=
  (zgf σ 956 x0).bind fun v1 =>
  (zga σ 101 v1 x3).bind fun v2 =>
  if v2 ≤ x4 then
    (f_X9_packed_108 x0 x1 x3 σ).map (fun r => (.inr r))
  else
    (zgf σ 957 x0).bind fun v3 =>
    (zga σ 101 v3 (zadd (zmul 3 x3) x4)).bind fun v4 =>
    zlet ((jor x1 (jshl v4 (zadd (zadd 20 (zmul 11 x3)) (zmul 3 x4))))) fun y5 =>
    zlet (zadd x4 1) fun y6 =>
    some (.inl (y5, y6))
noncomputable def f_X9_packed_63 (x0 x1 x3 x4 : Int) (σ : zM) : Option ((Int × Int) ⊕ zO) :=
  zloop (fun s : Int × Int => f_X9_packed_63_b x0 s.1 x3 s.2 σ) (x1, x4)
theorem w_X9_packed_63_b {g : zG} {lv : Nat} {out : zO} (x0 x1 x3 x4 : Int) (σ : zM) {r : ((Int × Int) ⊕ ((Int × Int) ⊕ zO))} (h : f_X9_packed_63_b x0 x1 x3 x4 σ = some r) (hk : (zKL (fun s : Int × Int => Gj g MX9_packed (lv) 63 [(0, zr x0), (1, zj s.1), (3, zi x3), (4, zi s.2)] [] σ out) (zKL (fun s : Int × Int => Gj g MX9_packed (lv) 34 [(0, zr x0), (1, zj s.1), (3, zi s.2)] [] σ out) (fun o : zO => o = out))) r) : Gj g MX9_packed (lv) 63 [(0, zr x0), (1, zj x1), (3, zi x3), (4, zi x4)] [] σ out := by
  revert h
  unfold f_X9_packed_63_b
  refine zst_ (gj_iload 3 (pc := 63) dX9_packed_63 rfl) ?_
  refine zst_ (gj_aload_n 0 (pc := 65) dX9_packed_65 rfl) ?_
  refine gb_get (pc := 66) fl956 dX9_packed_66 q1938 (Or.inl rfl) (fun v1 => ?_)
  refine zst_ (gj_iload_n 2 (pc := 69) dX9_packed_69 rfl) ?_
  refine gb_iald (pc := 70) dX9_packed_70 (fun v2 => ?_)
  refine gb_if (gj_icmp_ge 108 (pc := 71) dX9_packed_71 (by decide)) ?_ ?_
  · refine zst_ (gj_sub [0, 1, 2] rfl) ?_
    intro h
    obtain ⟨r0, h0, rfl⟩ := zmE h
    exact w_X9_packed_108 x0 x1 x3 σ h0 hk
  · refine zst_ (gj_lload_n 1 (pc := 74) dX9_packed_74 rfl) ?_
    refine zst_ (gj_aload_n 0 (pc := 75) dX9_packed_75 rfl) ?_
    refine gb_get (pc := 76) fl957 dX9_packed_76 q1939 (Or.inl rfl) (fun v3 => ?_)
    refine zst_ (gj_iconst (pc := 79) dX9_packed_79 (by decide)) ?_
    refine zst_ (gj_iload_n 2 (pc := 80) dX9_packed_80 rfl) ?_
    refine zst_ (gj_imul (pc := 81) dX9_packed_81) ?_
    refine zst_ (gj_iload 3 (pc := 82) dX9_packed_82 rfl) ?_
    refine zst_ (gj_iadd (pc := 84) dX9_packed_84) ?_
    refine gb_iald (pc := 85) dX9_packed_85 (fun v4 => ?_)
    refine zst_ (gj_i2l (pc := 86) dX9_packed_86) ?_
    refine zst_ (gj_bipush (pc := 87) dX9_packed_87 ⟨rfl, by decide⟩) ?_
    refine zst_ (gj_bipush (pc := 89) dX9_packed_89 ⟨rfl, by decide⟩) ?_
    refine zst_ (gj_iload_n 2 (pc := 91) dX9_packed_91 rfl) ?_
    refine zst_ (gj_imul (pc := 92) dX9_packed_92) ?_
    refine zst_ (gj_iadd (pc := 93) dX9_packed_93) ?_
    refine zst_ (gj_iconst (pc := 94) dX9_packed_94 (by decide)) ?_
    refine zst_ (gj_iload 3 (pc := 95) dX9_packed_95 rfl) ?_
    refine zst_ (gj_imul (pc := 97) dX9_packed_97) ?_
    refine zst_ (gj_iadd (pc := 98) dX9_packed_98) ?_
    refine zst_ (gj_lshl (pc := 99) dX9_packed_99) ?_
    refine zst_ (gj_lor (pc := 100) dX9_packed_100) ?_
    refine gb_let (fun y5 => ?_)
    refine zst_ (gj_lstore_n (pc := 101) (ls' := [(1, zj y5), (0, zr x0), (3, zi x3), (4, zi x4)]) dX9_packed_101 (by decide) rfl) ?_
    refine gb_iinc (pc := 102) 3 (fun y6 => [(4, zi y6), (1, zj y5), (0, zr x0), (3, zi x3)]) dX9_packed_102 rfl (by decide) (fun _ => rfl) (fun y6 => ?_)
    refine zst_ (gj_goto 63 (pc := 105) dX9_packed_105 (by decide)) ?_
    refine zst_ (gj_sub [2, 1, 3, 0] rfl) ?_
    intro h
    cases h
    exact hk
theorem w_X9_packed_63 {g : zG} {lv : Nat} {out : zO} (x0 x1 x3 x4 : Int) (σ : zM) {r : ((Int × Int) ⊕ zO)} (h : f_X9_packed_63 x0 x1 x3 x4 σ = some r) (hk : (zKL (fun s : Int × Int => Gj g MX9_packed (lv) 34 [(0, zr x0), (1, zj s.1), (3, zi s.2)] [] σ out) (fun o : zO => o = out)) r) : Gj g MX9_packed (lv) 63 [(0, zr x0), (1, zj x1), (3, zi x3), (4, zi x4)] [] σ out :=
  gj_loop (P := (fun s : Int × Int => Gj g MX9_packed (lv) 63 [(0, zr x0), (1, zj s.1), (3, zi x3), (4, zi s.2)] [] σ out)) (fun s x hb hx => w_X9_packed_63_b x0 s.1 x3 s.2 σ hb hx) h hk
noncomputable def f_X9_packed_34_b (x0 x1 x3 : Int) (σ : zM) : Option ((Int × Int) ⊕ zO) :=
  (zgf σ 908 x0).bind fun v1 =>
  if v1 ≤ x3 then
    (f_X9_packed_114 x0 x1 σ).map (fun r => (.inr r))
  else
    (zgf σ 956 x0).bind fun v2 =>
    (zga σ 101 v2 x3).bind fun v3 =>
    zlet ((jor x1 (jshl v3 (zadd 18 (zmul 11 x3))))) fun y4 =>
    f_X9_packed_63 x0 y4 x3 0 σ
noncomputable def f_X9_packed_34 (x0 x1 x3 : Int) (σ : zM) : Option zO :=
  zloop (fun s : Int × Int => f_X9_packed_34_b x0 s.1 s.2 σ) (x1, x3)
theorem w_X9_packed_34_b {g : zG} {lv : Nat} {out : zO} (x0 x1 x3 : Int) (σ : zM) {r : ((Int × Int) ⊕ zO)} (h : f_X9_packed_34_b x0 x1 x3 σ = some r) (hk : (zKL (fun s : Int × Int => Gj g MX9_packed (lv) 34 [(0, zr x0), (1, zj s.1), (3, zi s.2)] [] σ out) (fun o : zO => o = out)) r) : Gj g MX9_packed (lv) 34 [(0, zr x0), (1, zj x1), (3, zi x3)] [] σ out := by
  revert h
  unfold f_X9_packed_34_b
  refine zst_ (gj_iload_n 2 (pc := 34) dX9_packed_34 rfl) ?_
  refine zst_ (gj_aload_n 0 (pc := 35) dX9_packed_35 rfl) ?_
  refine gb_get (pc := 36) fl908 dX9_packed_36 q1890 (Or.inl rfl) (fun v1 => ?_)
  refine gb_if (gj_icmp_ge 114 (pc := 39) dX9_packed_39 (by decide)) ?_ ?_
  · refine zst_ (gj_sub [0, 1] rfl) ?_
    intro h
    obtain ⟨r0, h0, rfl⟩ := zmE h
    exact w_X9_packed_114 x0 x1 σ h0 hk
  · refine zst_ (gj_lload_n 1 (pc := 42) dX9_packed_42 rfl) ?_
    refine zst_ (gj_aload_n 0 (pc := 43) dX9_packed_43 rfl) ?_
    refine gb_get (pc := 44) fl956 dX9_packed_44 q1938 (Or.inl rfl) (fun v2 => ?_)
    refine zst_ (gj_iload_n 2 (pc := 47) dX9_packed_47 rfl) ?_
    refine gb_iald (pc := 48) dX9_packed_48 (fun v3 => ?_)
    refine zst_ (gj_i2l (pc := 49) dX9_packed_49) ?_
    refine zst_ (gj_bipush (pc := 50) dX9_packed_50 ⟨rfl, by decide⟩) ?_
    refine zst_ (gj_bipush (pc := 52) dX9_packed_52 ⟨rfl, by decide⟩) ?_
    refine zst_ (gj_iload_n 2 (pc := 54) dX9_packed_54 rfl) ?_
    refine zst_ (gj_imul (pc := 55) dX9_packed_55) ?_
    refine zst_ (gj_iadd (pc := 56) dX9_packed_56) ?_
    refine zst_ (gj_lshl (pc := 57) dX9_packed_57) ?_
    refine zst_ (gj_lor (pc := 58) dX9_packed_58) ?_
    refine gb_let (fun y4 => ?_)
    refine zst_ (gj_lstore_n (pc := 59) (ls' := [(1, zj y4), (0, zr x0), (3, zi x3)]) dX9_packed_59 (by decide) rfl) ?_
    refine zst_ (gj_iconst (pc := 60) dX9_packed_60 (by decide)) ?_
    refine zst_ (gj_istore (pc := 61) (ls' := [(4, zi 0), (1, zj y4), (0, zr x0), (3, zi x3)]) dX9_packed_61 (by decide) rfl) ?_
    refine zst_ (gj_sub [2, 1, 3, 0] rfl) ?_
    exact fun h => w_X9_packed_63 x0 y4 x3 0 σ h hk
theorem w_X9_packed_34 {g : zG} {lv : Nat} {out : zO} (x0 x1 x3 : Int) (σ : zM) {r : zO} (h : f_X9_packed_34 x0 x1 x3 σ = some r) (hk : (fun o : zO => o = out) r) : Gj g MX9_packed (lv) 34 [(0, zr x0), (1, zj x1), (3, zi x3)] [] σ out :=
  gj_loop (P := (fun s : Int × Int => Gj g MX9_packed (lv) 34 [(0, zr x0), (1, zj s.1), (3, zi s.2)] [] σ out)) (fun s x hb hx => w_X9_packed_34_b x0 s.1 s.2 σ hb hx) h hk
noncomputable def f_X9_packed_32 (x0 x1 : Int) (σ : zM) : Option zO :=
  f_X9_packed_34 x0 x1 0 σ
theorem w_X9_packed_32 {g : zG} {lv : Nat} {out : zO} (x0 x1 : Int) (σ : zM) {r : zO} (h : f_X9_packed_32 x0 x1 σ = some r) (hk : (fun o : zO => o = out) r) : Gj g MX9_packed (lv) 32 [(0, zr x0), (1, zj x1)] [] σ out := by
  revert h
  unfold f_X9_packed_32
  refine zst_ (gj_iconst (pc := 32) dX9_packed_32 (by decide)) ?_
  refine zst_ (gj_istore_n (pc := 33) (ls' := [(3, zi 0), (0, zr x0), (1, zj x1)]) dX9_packed_33 (by decide) rfl) ?_
  refine zst_ (gj_sub [1, 2, 0] rfl) ?_
  exact fun h => w_X9_packed_34 x0 x1 0 σ h hk
noncomputable def f_X9_packed_4_b (x0 x1 x3 : Int) (σ : zM) : Option ((Int × Int) ⊕ zO) :=
  (zgf σ 907 x0).bind fun v1 =>
  if v1 ≤ x3 then
    (f_X9_packed_32 x0 x1 σ).map (fun r => (.inr r))
  else
    (zgf σ 955 x0).bind fun v2 =>
    (zga σ 101 v2 x3).bind fun v3 =>
    zlet ((jor x1 (jshl v3 (zmul 3 x3)))) fun y4 =>
    zlet (zadd x3 1) fun y5 =>
    some (.inl (y4, y5))
noncomputable def f_X9_packed_4 (x0 x1 x3 : Int) (σ : zM) : Option zO :=
  zloop (fun s : Int × Int => f_X9_packed_4_b x0 s.1 s.2 σ) (x1, x3)
theorem w_X9_packed_4_b {g : zG} {lv : Nat} {out : zO} (x0 x1 x3 : Int) (σ : zM) {r : ((Int × Int) ⊕ zO)} (h : f_X9_packed_4_b x0 x1 x3 σ = some r) (hk : (zKL (fun s : Int × Int => Gj g MX9_packed (lv) 4 [(0, zr x0), (1, zj s.1), (3, zi s.2)] [] σ out) (fun o : zO => o = out)) r) : Gj g MX9_packed (lv) 4 [(0, zr x0), (1, zj x1), (3, zi x3)] [] σ out := by
  revert h
  unfold f_X9_packed_4_b
  refine zst_ (gj_iload_n 2 (pc := 4) dX9_packed_4 rfl) ?_
  refine zst_ (gj_aload_n 0 (pc := 5) dX9_packed_5 rfl) ?_
  refine gb_get (pc := 6) fl907 dX9_packed_6 q1889 (Or.inl rfl) (fun v1 => ?_)
  refine gb_if (gj_icmp_ge 32 (pc := 9) dX9_packed_9 (by decide)) ?_ ?_
  · refine zst_ (gj_sub [0, 1] rfl) ?_
    intro h
    obtain ⟨r0, h0, rfl⟩ := zmE h
    exact w_X9_packed_32 x0 x1 σ h0 hk
  · refine zst_ (gj_lload_n 1 (pc := 12) dX9_packed_12 rfl) ?_
    refine zst_ (gj_aload_n 0 (pc := 13) dX9_packed_13 rfl) ?_
    refine gb_get (pc := 14) fl955 dX9_packed_14 q1937 (Or.inl rfl) (fun v2 => ?_)
    refine zst_ (gj_iload_n 2 (pc := 17) dX9_packed_17 rfl) ?_
    refine gb_iald (pc := 18) dX9_packed_18 (fun v3 => ?_)
    refine zst_ (gj_i2l (pc := 19) dX9_packed_19) ?_
    refine zst_ (gj_iconst (pc := 20) dX9_packed_20 (by decide)) ?_
    refine zst_ (gj_iload_n 2 (pc := 21) dX9_packed_21 rfl) ?_
    refine zst_ (gj_imul (pc := 22) dX9_packed_22) ?_
    refine zst_ (gj_lshl (pc := 23) dX9_packed_23) ?_
    refine zst_ (gj_lor (pc := 24) dX9_packed_24) ?_
    refine gb_let (fun y4 => ?_)
    refine zst_ (gj_lstore_n (pc := 25) (ls' := [(1, zj y4), (0, zr x0), (3, zi x3)]) dX9_packed_25 (by decide) rfl) ?_
    refine gb_iinc (pc := 26) 2 (fun y5 => [(3, zi y5), (1, zj y4), (0, zr x0)]) dX9_packed_26 rfl (by decide) (fun _ => rfl) (fun y5 => ?_)
    refine zst_ (gj_goto 4 (pc := 29) dX9_packed_29 (by decide)) ?_
    refine zst_ (gj_sub [2, 1, 0] rfl) ?_
    intro h
    cases h
    exact hk
theorem w_X9_packed_4 {g : zG} {lv : Nat} {out : zO} (x0 x1 x3 : Int) (σ : zM) {r : zO} (h : f_X9_packed_4 x0 x1 x3 σ = some r) (hk : (fun o : zO => o = out) r) : Gj g MX9_packed (lv) 4 [(0, zr x0), (1, zj x1), (3, zi x3)] [] σ out :=
  gj_loop (P := (fun s : Int × Int => Gj g MX9_packed (lv) 4 [(0, zr x0), (1, zj s.1), (3, zi s.2)] [] σ out)) (fun s x hb hx => w_X9_packed_4_b x0 s.1 s.2 σ hb hx) h hk
noncomputable def f_X9_packed (x0 : Int) (σ : zM) : Option zO :=
  f_X9_packed_4 x0 0 0 σ
theorem c_X9_packed {g : zG} {lv : Nat} {x0 : Int} {σ : zM} {out : zO} (h : f_X9_packed x0 σ = some out) : Cj g (lv) MX9_packed [zr x0] σ out := by
  refine cj_go (ls := [(0, zr x0)]) (by decide) (Nat.le_of_ble_eq_true rfl) rfl (zgen h (fun r hk => ?_))
  unfold f_X9_packed
  refine zst_ (gj_lconst0 (pc := 0) dX9_packed_0) ?_
  refine zst_ (gj_lstore_n (pc := 1) (ls' := [(1, zj 0), (0, zr x0)]) dX9_packed_1 (by decide) rfl) ?_
  refine zst_ (gj_iconst (pc := 2) dX9_packed_2 (by decide)) ?_
  refine zst_ (gj_istore_n (pc := 3) (ls' := [(3, zi 0), (1, zj 0), (0, zr x0)]) dX9_packed_3 (by decide) rfl) ?_
  refine zst_ (gj_sub [2, 1, 0] rfl) ?_
  exact fun h => w_X9_packed_4 x0 0 0 σ h hk
theorem q2252 : (Jvm.Cond.code ({ cls := "LassoFinderModel", name := "unpack", desc := "(J)V" } : Jvm.MethodName) prog_22_method_29_code (5 : Nat) (Option.none : Option Jvm.ClassFile.FieldType)) ∈ lw_all := lw_g (lw_at lw_m9 232 rfl) rfl
theorem q2253 : (Jvm.Cond.constantLong "LassoFinderModel" (304 : Nat) (7 : Int64)) ∈ lw_all := lw_g (lw_at lw_m9 233 rfl) rfl
theorem q2254 : (Jvm.Cond.constantLong "LassoFinderModel" (306 : Nat) (3 : Int64)) ∈ lw_all := lw_g (lw_at lw_m9 234 rfl) rfl
theorem q2255 : (Jvm.Cond.constantLong "LassoFinderModel" (308 : Nat) (31 : Int64)) ∈ lw_all := lw_g (lw_at lw_m9 235 rfl) rfl
abbrev cX9_unpack : ByteArray := prog_22_method_29_code
def yX9_unpack : MethodName := ⟨RX9, "unpack", "(J)V"⟩
theorem dX9_unpack_0 : decode cX9_unpack 0 = .ok (.iconst 0, 1) := by decide +kernel
theorem dX9_unpack_1 : decode cX9_unpack 1 = .ok (.istore_n 3, 1) := by decide +kernel
theorem dX9_unpack_2 : decode cX9_unpack 2 = .ok (.iload_n 3, 1) := by decide +kernel
theorem dX9_unpack_3 : decode cX9_unpack 3 = .ok (.aload_n 0, 1) := by decide +kernel
theorem dX9_unpack_4 : decode cX9_unpack 4 = .ok (.getfield 241, 3) := by decide +kernel
theorem dX9_unpack_7 : decode cX9_unpack 7 = .ok (.if_icmp .ge 25, 3) := by decide +kernel
theorem dX9_unpack_10 : decode cX9_unpack 10 = .ok (.aload_n 0, 1) := by decide +kernel
theorem dX9_unpack_11 : decode cX9_unpack 11 = .ok (.getfield 130, 3) := by decide +kernel
theorem dX9_unpack_14 : decode cX9_unpack 14 = .ok (.iload_n 3, 1) := by decide +kernel
theorem dX9_unpack_15 : decode cX9_unpack 15 = .ok (.lload_n 1, 1) := by decide +kernel
theorem dX9_unpack_16 : decode cX9_unpack 16 = .ok (.iconst 3, 1) := by decide +kernel
theorem dX9_unpack_17 : decode cX9_unpack 17 = .ok (.iload_n 3, 1) := by decide +kernel
theorem dX9_unpack_18 : decode cX9_unpack 18 = .ok (.imul, 1) := by decide +kernel
theorem dX9_unpack_19 : decode cX9_unpack 19 = .ok (.lshr, 1) := by decide +kernel
theorem dX9_unpack_20 : decode cX9_unpack 20 = .ok (.ldc2_w 304, 3) := by decide +kernel
theorem dX9_unpack_23 : decode cX9_unpack 23 = .ok (.land, 1) := by decide +kernel
theorem dX9_unpack_24 : decode cX9_unpack 24 = .ok (.l2i, 1) := by decide +kernel
theorem dX9_unpack_25 : decode cX9_unpack 25 = .ok (.iastore, 1) := by decide +kernel
theorem dX9_unpack_26 : decode cX9_unpack 26 = .ok (.iinc 3 1, 3) := by decide +kernel
theorem dX9_unpack_29 : decode cX9_unpack 29 = .ok (.goto (-27), 3) := by decide +kernel
theorem dX9_unpack_32 : decode cX9_unpack 32 = .ok (.iconst 0, 1) := by decide +kernel
theorem dX9_unpack_33 : decode cX9_unpack 33 = .ok (.istore_n 3, 1) := by decide +kernel
theorem dX9_unpack_34 : decode cX9_unpack 34 = .ok (.iload_n 3, 1) := by decide +kernel
theorem dX9_unpack_35 : decode cX9_unpack 35 = .ok (.aload_n 0, 1) := by decide +kernel
theorem dX9_unpack_36 : decode cX9_unpack 36 = .ok (.getfield 238, 3) := by decide +kernel
theorem dX9_unpack_39 : decode cX9_unpack 39 = .ok (.if_icmp .ge 74, 3) := by decide +kernel
theorem dX9_unpack_42 : decode cX9_unpack 42 = .ok (.aload_n 0, 1) := by decide +kernel
theorem dX9_unpack_43 : decode cX9_unpack 43 = .ok (.getfield 133, 3) := by decide +kernel
theorem dX9_unpack_46 : decode cX9_unpack 46 = .ok (.iload_n 3, 1) := by decide +kernel
theorem dX9_unpack_47 : decode cX9_unpack 47 = .ok (.lload_n 1, 1) := by decide +kernel
theorem dX9_unpack_48 : decode cX9_unpack 48 = .ok (.bipush 18, 2) := by decide +kernel
theorem dX9_unpack_50 : decode cX9_unpack 50 = .ok (.bipush 11, 2) := by decide +kernel
theorem dX9_unpack_52 : decode cX9_unpack 52 = .ok (.iload_n 3, 1) := by decide +kernel
theorem dX9_unpack_53 : decode cX9_unpack 53 = .ok (.imul, 1) := by decide +kernel
theorem dX9_unpack_54 : decode cX9_unpack 54 = .ok (.iadd, 1) := by decide +kernel
theorem dX9_unpack_55 : decode cX9_unpack 55 = .ok (.lshr, 1) := by decide +kernel
theorem dX9_unpack_56 : decode cX9_unpack 56 = .ok (.ldc2_w 306, 3) := by decide +kernel
theorem dX9_unpack_59 : decode cX9_unpack 59 = .ok (.land, 1) := by decide +kernel
theorem dX9_unpack_60 : decode cX9_unpack 60 = .ok (.l2i, 1) := by decide +kernel
theorem dX9_unpack_61 : decode cX9_unpack 61 = .ok (.iastore, 1) := by decide +kernel
theorem dX9_unpack_62 : decode cX9_unpack 62 = .ok (.iconst 0, 1) := by decide +kernel
theorem dX9_unpack_63 : decode cX9_unpack 63 = .ok (.istore 4, 2) := by decide +kernel
theorem dX9_unpack_65 : decode cX9_unpack 65 = .ok (.iload 4, 2) := by decide +kernel
theorem dX9_unpack_67 : decode cX9_unpack 67 = .ok (.iconst 3, 1) := by decide +kernel
theorem dX9_unpack_68 : decode cX9_unpack 68 = .ok (.if_icmp .ge 39, 3) := by decide +kernel
theorem dX9_unpack_71 : decode cX9_unpack 71 = .ok (.aload_n 0, 1) := by decide +kernel
theorem dX9_unpack_72 : decode cX9_unpack 72 = .ok (.getfield 136, 3) := by decide +kernel
theorem dX9_unpack_75 : decode cX9_unpack 75 = .ok (.iconst 3, 1) := by decide +kernel
theorem dX9_unpack_76 : decode cX9_unpack 76 = .ok (.iload_n 3, 1) := by decide +kernel
theorem dX9_unpack_77 : decode cX9_unpack 77 = .ok (.imul, 1) := by decide +kernel
theorem dX9_unpack_78 : decode cX9_unpack 78 = .ok (.iload 4, 2) := by decide +kernel
theorem dX9_unpack_80 : decode cX9_unpack 80 = .ok (.iadd, 1) := by decide +kernel
theorem dX9_unpack_81 : decode cX9_unpack 81 = .ok (.lload_n 1, 1) := by decide +kernel
theorem dX9_unpack_82 : decode cX9_unpack 82 = .ok (.bipush 20, 2) := by decide +kernel
theorem dX9_unpack_84 : decode cX9_unpack 84 = .ok (.bipush 11, 2) := by decide +kernel
theorem dX9_unpack_86 : decode cX9_unpack 86 = .ok (.iload_n 3, 1) := by decide +kernel
theorem dX9_unpack_87 : decode cX9_unpack 87 = .ok (.imul, 1) := by decide +kernel
theorem dX9_unpack_88 : decode cX9_unpack 88 = .ok (.iadd, 1) := by decide +kernel
theorem dX9_unpack_89 : decode cX9_unpack 89 = .ok (.iconst 3, 1) := by decide +kernel
theorem dX9_unpack_90 : decode cX9_unpack 90 = .ok (.iload 4, 2) := by decide +kernel
theorem dX9_unpack_92 : decode cX9_unpack 92 = .ok (.imul, 1) := by decide +kernel
theorem dX9_unpack_93 : decode cX9_unpack 93 = .ok (.iadd, 1) := by decide +kernel
theorem dX9_unpack_94 : decode cX9_unpack 94 = .ok (.lshr, 1) := by decide +kernel
theorem dX9_unpack_95 : decode cX9_unpack 95 = .ok (.ldc2_w 304, 3) := by decide +kernel
theorem dX9_unpack_98 : decode cX9_unpack 98 = .ok (.land, 1) := by decide +kernel
theorem dX9_unpack_99 : decode cX9_unpack 99 = .ok (.l2i, 1) := by decide +kernel
theorem dX9_unpack_100 : decode cX9_unpack 100 = .ok (.iastore, 1) := by decide +kernel
theorem dX9_unpack_101 : decode cX9_unpack 101 = .ok (.iinc 4 1, 3) := by decide +kernel
theorem dX9_unpack_104 : decode cX9_unpack 104 = .ok (.goto (-39), 3) := by decide +kernel
theorem dX9_unpack_107 : decode cX9_unpack 107 = .ok (.iinc 3 1, 3) := by decide +kernel
theorem dX9_unpack_110 : decode cX9_unpack 110 = .ok (.goto (-76), 3) := by decide +kernel
theorem dX9_unpack_113 : decode cX9_unpack 113 = .ok (.iconst 0, 1) := by decide +kernel
theorem dX9_unpack_114 : decode cX9_unpack 114 = .ok (.istore_n 3, 1) := by decide +kernel
theorem dX9_unpack_115 : decode cX9_unpack 115 = .ok (.iload_n 3, 1) := by decide +kernel
theorem dX9_unpack_116 : decode cX9_unpack 116 = .ok (.aload_n 0, 1) := by decide +kernel
theorem dX9_unpack_117 : decode cX9_unpack 117 = .ok (.getfield 254, 3) := by decide +kernel
theorem dX9_unpack_120 : decode cX9_unpack 120 = .ok (.if_icmp .ge 28, 3) := by decide +kernel
theorem dX9_unpack_123 : decode cX9_unpack 123 = .ok (.aload_n 0, 1) := by decide +kernel
theorem dX9_unpack_124 : decode cX9_unpack 124 = .ok (.getfield 139, 3) := by decide +kernel
theorem dX9_unpack_127 : decode cX9_unpack 127 = .ok (.iload_n 3, 1) := by decide +kernel
theorem dX9_unpack_128 : decode cX9_unpack 128 = .ok (.lload_n 1, 1) := by decide +kernel
theorem dX9_unpack_129 : decode cX9_unpack 129 = .ok (.bipush 40, 2) := by decide +kernel
theorem dX9_unpack_131 : decode cX9_unpack 131 = .ok (.iconst 5, 1) := by decide +kernel
theorem dX9_unpack_132 : decode cX9_unpack 132 = .ok (.iload_n 3, 1) := by decide +kernel
theorem dX9_unpack_133 : decode cX9_unpack 133 = .ok (.imul, 1) := by decide +kernel
theorem dX9_unpack_134 : decode cX9_unpack 134 = .ok (.iadd, 1) := by decide +kernel
theorem dX9_unpack_135 : decode cX9_unpack 135 = .ok (.lshr, 1) := by decide +kernel
theorem dX9_unpack_136 : decode cX9_unpack 136 = .ok (.ldc2_w 308, 3) := by decide +kernel
theorem dX9_unpack_139 : decode cX9_unpack 139 = .ok (.land, 1) := by decide +kernel
theorem dX9_unpack_140 : decode cX9_unpack 140 = .ok (.l2i, 1) := by decide +kernel
theorem dX9_unpack_141 : decode cX9_unpack 141 = .ok (.iastore, 1) := by decide +kernel
theorem dX9_unpack_142 : decode cX9_unpack 142 = .ok (.iinc 3 1, 3) := by decide +kernel
theorem dX9_unpack_145 : decode cX9_unpack 145 = .ok (.goto (-30), 3) := by decide +kernel
theorem dX9_unpack_148 : decode cX9_unpack 148 = .ok (.aload_n 0, 1) := by decide +kernel
theorem dX9_unpack_149 : decode cX9_unpack 149 = .ok (.lload_n 1, 1) := by decide +kernel
theorem dX9_unpack_150 : decode cX9_unpack 150 = .ok (.bipush 60, 2) := by decide +kernel
theorem dX9_unpack_152 : decode cX9_unpack 152 = .ok (.lshr, 1) := by decide +kernel
theorem dX9_unpack_153 : decode cX9_unpack 153 = .ok (.ldc2_w 304, 3) := by decide +kernel
theorem dX9_unpack_156 : decode cX9_unpack 156 = .ok (.land, 1) := by decide +kernel
theorem dX9_unpack_157 : decode cX9_unpack 157 = .ok (.l2i, 1) := by decide +kernel
theorem dX9_unpack_158 : decode cX9_unpack 158 = .ok (.iconst 1, 1) := by decide +kernel
theorem dX9_unpack_159 : decode cX9_unpack 159 = .ok (.isub, 1) := by decide +kernel
theorem dX9_unpack_160 : decode cX9_unpack 160 = .ok (.putfield 301, 3) := by decide +kernel
theorem dX9_unpack_163 : decode cX9_unpack 163 = .ok (.return_, 1) := by decide +kernel
abbrev MX9_unpack : zT := (yX9_unpack, cX9_unpack, 5, (Option.none : Option Jvm.ClassFile.FieldType), [])
theorem plX9_unpack : zplain MX9_unpack 1 ∧ (zcodeW MX9_unpack ∈ lw_all ∧ Cond.initialized MX9_unpack.1.cls ∈ lw_all) := ⟨⟨by decide +kernel, by decide +kernel⟩, q2252, q127⟩
noncomputable def f_X9_unpack_148 (x0 x1 : Int) (σ : zM) : Option zO :=
  (zpf σ 959 x0 (zsub (zl2i (jand (jshr x1 60) 7)) 1)).bind fun σ1 =>
  some (0, ((3, 0) : zV), σ1)
theorem w_X9_unpack_148 {g : zG} {lv : Nat} {out : zO} (x0 x1 : Int) (σ : zM) {r : zO} (h : f_X9_unpack_148 x0 x1 σ = some r) (hk : (fun o : zO => o = out) r) : Gj g MX9_unpack (lv) 148 [(0, zr x0), (1, zj x1)] [] σ out := by
  revert h
  unfold f_X9_unpack_148
  refine zst_ (gj_aload_n 0 (pc := 148) dX9_unpack_148 rfl) ?_
  refine zst_ (gj_lload_n 1 (pc := 149) dX9_unpack_149 rfl) ?_
  refine zst_ (gj_bipush (pc := 150) dX9_unpack_150 ⟨rfl, by decide⟩) ?_
  refine zst_ (gj_lshr (pc := 152) dX9_unpack_152) ?_
  refine zst_ (gj_ldc2 (pc := 153) (a := 7) dX9_unpack_153 q2253 (by decide +kernel)) ?_
  refine zst_ (gj_land (pc := 156) dX9_unpack_156) ?_
  refine zst_ (gj_l2i (pc := 157) dX9_unpack_157) ?_
  refine zst_ (gj_iconst (pc := 158) dX9_unpack_158 (by decide)) ?_
  refine zst_ (gj_isub (pc := 159) dX9_unpack_159) ?_
  refine gb_put (pc := 160) fl959 fr959 dX9_unpack_160 q1941 (Or.inl rfl) (fun σ1 => ?_)
  intro h
  cases h
  have hk : (0, ((3, 0) : zV), σ1) = out := hk
  subst hk
  exact gj_vret (pc := 163) dX9_unpack_163 rfl
noncomputable def f_X9_unpack_115_b (x0 x1 x3 : Int) (σ : zM) : Option ((Int × zM) ⊕ zO) :=
  (zgf σ 930 x0).bind fun v1 =>
  if v1 ≤ x3 then
    (f_X9_unpack_148 x0 x1 σ).map (fun r => (.inr r))
  else
    (zgf σ 958 x0).bind fun v2 =>
    (zpa σ 101 v2 x3 (zl2i (jand (jshr x1 (zadd 40 (zmul 5 x3))) 31))).bind fun σ3 =>
    zlet (zadd x3 1) fun y4 =>
    some (.inl (y4, σ3))
noncomputable def f_X9_unpack_115 (x0 x1 x3 : Int) (σ : zM) : Option zO :=
  zloop (fun s : Int × zM => f_X9_unpack_115_b x0 x1 s.1 s.2) (x3, σ)
theorem w_X9_unpack_115_b {g : zG} {lv : Nat} {out : zO} (x0 x1 x3 : Int) (σ : zM) {r : ((Int × zM) ⊕ zO)} (h : f_X9_unpack_115_b x0 x1 x3 σ = some r) (hk : (zKL (fun s : Int × zM => Gj g MX9_unpack (lv) 115 [(0, zr x0), (1, zj x1), (3, zi s.1)] [] s.2 out) (fun o : zO => o = out)) r) : Gj g MX9_unpack (lv) 115 [(0, zr x0), (1, zj x1), (3, zi x3)] [] σ out := by
  revert h
  unfold f_X9_unpack_115_b
  refine zst_ (gj_iload_n 2 (pc := 115) dX9_unpack_115 rfl) ?_
  refine zst_ (gj_aload_n 0 (pc := 116) dX9_unpack_116 rfl) ?_
  refine gb_get (pc := 117) fl930 dX9_unpack_117 q1912 (Or.inl rfl) (fun v1 => ?_)
  refine gb_if (gj_icmp_ge 148 (pc := 120) dX9_unpack_120 (by decide)) ?_ ?_
  · refine zst_ (gj_sub [0, 1] rfl) ?_
    intro h
    obtain ⟨r0, h0, rfl⟩ := zmE h
    exact w_X9_unpack_148 x0 x1 σ h0 hk
  · refine zst_ (gj_aload_n 0 (pc := 123) dX9_unpack_123 rfl) ?_
    refine gb_get (pc := 124) fl958 dX9_unpack_124 q1940 (Or.inl rfl) (fun v2 => ?_)
    refine zst_ (gj_iload_n 2 (pc := 127) dX9_unpack_127 rfl) ?_
    refine zst_ (gj_lload_n 1 (pc := 128) dX9_unpack_128 rfl) ?_
    refine zst_ (gj_bipush (pc := 129) dX9_unpack_129 ⟨rfl, by decide⟩) ?_
    refine zst_ (gj_iconst (pc := 131) dX9_unpack_131 (by decide)) ?_
    refine zst_ (gj_iload_n 2 (pc := 132) dX9_unpack_132 rfl) ?_
    refine zst_ (gj_imul (pc := 133) dX9_unpack_133) ?_
    refine zst_ (gj_iadd (pc := 134) dX9_unpack_134) ?_
    refine zst_ (gj_lshr (pc := 135) dX9_unpack_135) ?_
    refine zst_ (gj_ldc2 (pc := 136) (a := 31) dX9_unpack_136 q2255 (by decide +kernel)) ?_
    refine zst_ (gj_land (pc := 139) dX9_unpack_139) ?_
    refine zst_ (gj_l2i (pc := 140) dX9_unpack_140) ?_
    refine gb_iast (pc := 141) dX9_unpack_141 (fun σ3 => ?_)
    refine gb_iinc (pc := 142) 2 (fun y4 => [(3, zi y4), (0, zr x0), (1, zj x1)]) dX9_unpack_142 rfl (by decide) (fun _ => rfl) (fun y4 => ?_)
    refine zst_ (gj_goto 115 (pc := 145) dX9_unpack_145 (by decide)) ?_
    refine zst_ (gj_sub [1, 2, 0] rfl) ?_
    intro h
    cases h
    exact hk
theorem w_X9_unpack_115 {g : zG} {lv : Nat} {out : zO} (x0 x1 x3 : Int) (σ : zM) {r : zO} (h : f_X9_unpack_115 x0 x1 x3 σ = some r) (hk : (fun o : zO => o = out) r) : Gj g MX9_unpack (lv) 115 [(0, zr x0), (1, zj x1), (3, zi x3)] [] σ out :=
  gj_loop (P := (fun s : Int × zM => Gj g MX9_unpack (lv) 115 [(0, zr x0), (1, zj x1), (3, zi s.1)] [] s.2 out)) (fun s x hb hx => w_X9_unpack_115_b x0 x1 s.1 s.2 hb hx) h hk
noncomputable def f_X9_unpack_113 (x0 x1 : Int) (σ : zM) : Option zO :=
  f_X9_unpack_115 x0 x1 0 σ
theorem w_X9_unpack_113 {g : zG} {lv : Nat} {out : zO} (x0 x1 : Int) (σ : zM) {r : zO} (h : f_X9_unpack_113 x0 x1 σ = some r) (hk : (fun o : zO => o = out) r) : Gj g MX9_unpack (lv) 113 [(0, zr x0), (1, zj x1)] [] σ out := by
  revert h
  unfold f_X9_unpack_113
  refine zst_ (gj_iconst (pc := 113) dX9_unpack_113 (by decide)) ?_
  refine zst_ (gj_istore_n (pc := 114) (ls' := [(3, zi 0), (0, zr x0), (1, zj x1)]) dX9_unpack_114 (by decide) rfl) ?_
  refine zst_ (gj_sub [1, 2, 0] rfl) ?_
  exact fun h => w_X9_unpack_115 x0 x1 0 σ h hk
noncomputable def f_X9_unpack_107 (x0 x1 x3 : Int) (σ : zM) : Option ((Int × zM) ⊕ zO) :=
  zlet (zadd x3 1) fun y1 =>
  some (.inl (y1, σ))
theorem w_X9_unpack_107 {g : zG} {lv : Nat} {out : zO} (x0 x1 x3 : Int) (σ : zM) {r : ((Int × zM) ⊕ zO)} (h : f_X9_unpack_107 x0 x1 x3 σ = some r) (hk : (zKL (fun s : Int × zM => Gj g MX9_unpack (lv) 34 [(0, zr x0), (1, zj x1), (3, zi s.1)] [] s.2 out) (fun o : zO => o = out)) r) : Gj g MX9_unpack (lv) 107 [(0, zr x0), (1, zj x1), (3, zi x3)] [] σ out := by
  revert h
  unfold f_X9_unpack_107
  refine gb_iinc (pc := 107) 2 (fun y1 => [(3, zi y1), (0, zr x0), (1, zj x1)]) dX9_unpack_107 rfl (by decide) (fun _ => rfl) (fun y1 => ?_)
  refine zst_ (gj_goto 34 (pc := 110) dX9_unpack_110 (by decide)) ?_
  refine zst_ (gj_sub [1, 2, 0] rfl) ?_
  intro h
  cases h
  exact hk
noncomputable def f_X9_unpack_65_b (x0 x1 x3 x4 : Int) (σ : zM) : Option ((Int × zM) ⊕ ((Int × zM) ⊕ zO)) :=
  if 3 ≤ x4 then
    (f_X9_unpack_107 x0 x1 x3 σ).map (fun r => (.inr r))
  else
    (zgf σ 957 x0).bind fun v1 =>
    (zpa σ 101 v1 (zadd (zmul 3 x3) x4) (zl2i (jand (jshr x1 (zadd (zadd 20 (zmul 11 x3)) (zmul 3 x4))) 7))).bind fun σ2 =>
    zlet (zadd x4 1) fun y3 =>
    some (.inl (y3, σ2))
noncomputable def f_X9_unpack_65 (x0 x1 x3 x4 : Int) (σ : zM) : Option ((Int × zM) ⊕ zO) :=
  zloop (fun s : Int × zM => f_X9_unpack_65_b x0 x1 x3 s.1 s.2) (x4, σ)
theorem w_X9_unpack_65_b {g : zG} {lv : Nat} {out : zO} (x0 x1 x3 x4 : Int) (σ : zM) {r : ((Int × zM) ⊕ ((Int × zM) ⊕ zO))} (h : f_X9_unpack_65_b x0 x1 x3 x4 σ = some r) (hk : (zKL (fun s : Int × zM => Gj g MX9_unpack (lv) 65 [(0, zr x0), (1, zj x1), (3, zi x3), (4, zi s.1)] [] s.2 out) (zKL (fun s : Int × zM => Gj g MX9_unpack (lv) 34 [(0, zr x0), (1, zj x1), (3, zi s.1)] [] s.2 out) (fun o : zO => o = out))) r) : Gj g MX9_unpack (lv) 65 [(0, zr x0), (1, zj x1), (3, zi x3), (4, zi x4)] [] σ out := by
  revert h
  unfold f_X9_unpack_65_b
  refine zst_ (gj_iload 3 (pc := 65) dX9_unpack_65 rfl) ?_
  refine zst_ (gj_iconst (pc := 67) dX9_unpack_67 (by decide)) ?_
  refine gb_if (gj_icmp_ge 107 (pc := 68) dX9_unpack_68 (by decide)) ?_ ?_
  · refine zst_ (gj_sub [0, 1, 2] rfl) ?_
    intro h
    obtain ⟨r0, h0, rfl⟩ := zmE h
    exact w_X9_unpack_107 x0 x1 x3 σ h0 hk
  · refine zst_ (gj_aload_n 0 (pc := 71) dX9_unpack_71 rfl) ?_
    refine gb_get (pc := 72) fl957 dX9_unpack_72 q1939 (Or.inl rfl) (fun v1 => ?_)
    refine zst_ (gj_iconst (pc := 75) dX9_unpack_75 (by decide)) ?_
    refine zst_ (gj_iload_n 2 (pc := 76) dX9_unpack_76 rfl) ?_
    refine zst_ (gj_imul (pc := 77) dX9_unpack_77) ?_
    refine zst_ (gj_iload 3 (pc := 78) dX9_unpack_78 rfl) ?_
    refine zst_ (gj_iadd (pc := 80) dX9_unpack_80) ?_
    refine zst_ (gj_lload_n 1 (pc := 81) dX9_unpack_81 rfl) ?_
    refine zst_ (gj_bipush (pc := 82) dX9_unpack_82 ⟨rfl, by decide⟩) ?_
    refine zst_ (gj_bipush (pc := 84) dX9_unpack_84 ⟨rfl, by decide⟩) ?_
    refine zst_ (gj_iload_n 2 (pc := 86) dX9_unpack_86 rfl) ?_
    refine zst_ (gj_imul (pc := 87) dX9_unpack_87) ?_
    refine zst_ (gj_iadd (pc := 88) dX9_unpack_88) ?_
    refine zst_ (gj_iconst (pc := 89) dX9_unpack_89 (by decide)) ?_
    refine zst_ (gj_iload 3 (pc := 90) dX9_unpack_90 rfl) ?_
    refine zst_ (gj_imul (pc := 92) dX9_unpack_92) ?_
    refine zst_ (gj_iadd (pc := 93) dX9_unpack_93) ?_
    refine zst_ (gj_lshr (pc := 94) dX9_unpack_94) ?_
    refine zst_ (gj_ldc2 (pc := 95) (a := 7) dX9_unpack_95 q2253 (by decide +kernel)) ?_
    refine zst_ (gj_land (pc := 98) dX9_unpack_98) ?_
    refine zst_ (gj_l2i (pc := 99) dX9_unpack_99) ?_
    refine gb_iast (pc := 100) dX9_unpack_100 (fun σ2 => ?_)
    refine gb_iinc (pc := 101) 3 (fun y3 => [(4, zi y3), (0, zr x0), (1, zj x1), (3, zi x3)]) dX9_unpack_101 rfl (by decide) (fun _ => rfl) (fun y3 => ?_)
    refine zst_ (gj_goto 65 (pc := 104) dX9_unpack_104 (by decide)) ?_
    refine zst_ (gj_sub [1, 2, 3, 0] rfl) ?_
    intro h
    cases h
    exact hk
theorem w_X9_unpack_65 {g : zG} {lv : Nat} {out : zO} (x0 x1 x3 x4 : Int) (σ : zM) {r : ((Int × zM) ⊕ zO)} (h : f_X9_unpack_65 x0 x1 x3 x4 σ = some r) (hk : (zKL (fun s : Int × zM => Gj g MX9_unpack (lv) 34 [(0, zr x0), (1, zj x1), (3, zi s.1)] [] s.2 out) (fun o : zO => o = out)) r) : Gj g MX9_unpack (lv) 65 [(0, zr x0), (1, zj x1), (3, zi x3), (4, zi x4)] [] σ out :=
  gj_loop (P := (fun s : Int × zM => Gj g MX9_unpack (lv) 65 [(0, zr x0), (1, zj x1), (3, zi x3), (4, zi s.1)] [] s.2 out)) (fun s x hb hx => w_X9_unpack_65_b x0 x1 x3 s.1 s.2 hb hx) h hk
noncomputable def f_X9_unpack_34_b (x0 x1 x3 : Int) (σ : zM) : Option ((Int × zM) ⊕ zO) :=
  (zgf σ 908 x0).bind fun v1 =>
  if v1 ≤ x3 then
    (f_X9_unpack_113 x0 x1 σ).map (fun r => (.inr r))
  else
    (zgf σ 956 x0).bind fun v2 =>
    (zpa σ 101 v2 x3 (zl2i (jand (jshr x1 (zadd 18 (zmul 11 x3))) 3))).bind fun σ3 =>
    f_X9_unpack_65 x0 x1 x3 0 σ3
noncomputable def f_X9_unpack_34 (x0 x1 x3 : Int) (σ : zM) : Option zO :=
  zloop (fun s : Int × zM => f_X9_unpack_34_b x0 x1 s.1 s.2) (x3, σ)
theorem w_X9_unpack_34_b {g : zG} {lv : Nat} {out : zO} (x0 x1 x3 : Int) (σ : zM) {r : ((Int × zM) ⊕ zO)} (h : f_X9_unpack_34_b x0 x1 x3 σ = some r) (hk : (zKL (fun s : Int × zM => Gj g MX9_unpack (lv) 34 [(0, zr x0), (1, zj x1), (3, zi s.1)] [] s.2 out) (fun o : zO => o = out)) r) : Gj g MX9_unpack (lv) 34 [(0, zr x0), (1, zj x1), (3, zi x3)] [] σ out := by
  revert h
  unfold f_X9_unpack_34_b
  refine zst_ (gj_iload_n 2 (pc := 34) dX9_unpack_34 rfl) ?_
  refine zst_ (gj_aload_n 0 (pc := 35) dX9_unpack_35 rfl) ?_
  refine gb_get (pc := 36) fl908 dX9_unpack_36 q1890 (Or.inl rfl) (fun v1 => ?_)
  refine gb_if (gj_icmp_ge 113 (pc := 39) dX9_unpack_39 (by decide)) ?_ ?_
  · refine zst_ (gj_sub [0, 1] rfl) ?_
    intro h
    obtain ⟨r0, h0, rfl⟩ := zmE h
    exact w_X9_unpack_113 x0 x1 σ h0 hk
  · refine zst_ (gj_aload_n 0 (pc := 42) dX9_unpack_42 rfl) ?_
    refine gb_get (pc := 43) fl956 dX9_unpack_43 q1938 (Or.inl rfl) (fun v2 => ?_)
    refine zst_ (gj_iload_n 2 (pc := 46) dX9_unpack_46 rfl) ?_
    refine zst_ (gj_lload_n 1 (pc := 47) dX9_unpack_47 rfl) ?_
    refine zst_ (gj_bipush (pc := 48) dX9_unpack_48 ⟨rfl, by decide⟩) ?_
    refine zst_ (gj_bipush (pc := 50) dX9_unpack_50 ⟨rfl, by decide⟩) ?_
    refine zst_ (gj_iload_n 2 (pc := 52) dX9_unpack_52 rfl) ?_
    refine zst_ (gj_imul (pc := 53) dX9_unpack_53) ?_
    refine zst_ (gj_iadd (pc := 54) dX9_unpack_54) ?_
    refine zst_ (gj_lshr (pc := 55) dX9_unpack_55) ?_
    refine zst_ (gj_ldc2 (pc := 56) (a := 3) dX9_unpack_56 q2254 (by decide +kernel)) ?_
    refine zst_ (gj_land (pc := 59) dX9_unpack_59) ?_
    refine zst_ (gj_l2i (pc := 60) dX9_unpack_60) ?_
    refine gb_iast (pc := 61) dX9_unpack_61 (fun σ3 => ?_)
    refine zst_ (gj_iconst (pc := 62) dX9_unpack_62 (by decide)) ?_
    refine zst_ (gj_istore (pc := 63) (ls' := [(4, zi 0), (0, zr x0), (1, zj x1), (3, zi x3)]) dX9_unpack_63 (by decide) rfl) ?_
    refine zst_ (gj_sub [1, 2, 3, 0] rfl) ?_
    exact fun h => w_X9_unpack_65 x0 x1 x3 0 σ3 h hk
theorem w_X9_unpack_34 {g : zG} {lv : Nat} {out : zO} (x0 x1 x3 : Int) (σ : zM) {r : zO} (h : f_X9_unpack_34 x0 x1 x3 σ = some r) (hk : (fun o : zO => o = out) r) : Gj g MX9_unpack (lv) 34 [(0, zr x0), (1, zj x1), (3, zi x3)] [] σ out :=
  gj_loop (P := (fun s : Int × zM => Gj g MX9_unpack (lv) 34 [(0, zr x0), (1, zj x1), (3, zi s.1)] [] s.2 out)) (fun s x hb hx => w_X9_unpack_34_b x0 x1 s.1 s.2 hb hx) h hk
noncomputable def f_X9_unpack_32 (x0 x1 : Int) (σ : zM) : Option zO :=
  f_X9_unpack_34 x0 x1 0 σ
theorem w_X9_unpack_32 {g : zG} {lv : Nat} {out : zO} (x0 x1 : Int) (σ : zM) {r : zO} (h : f_X9_unpack_32 x0 x1 σ = some r) (hk : (fun o : zO => o = out) r) : Gj g MX9_unpack (lv) 32 [(0, zr x0), (1, zj x1)] [] σ out := by
  revert h
  unfold f_X9_unpack_32
  refine zst_ (gj_iconst (pc := 32) dX9_unpack_32 (by decide)) ?_
  refine zst_ (gj_istore_n (pc := 33) (ls' := [(3, zi 0), (0, zr x0), (1, zj x1)]) dX9_unpack_33 (by decide) rfl) ?_
  refine zst_ (gj_sub [1, 2, 0] rfl) ?_
  exact fun h => w_X9_unpack_34 x0 x1 0 σ h hk
noncomputable def f_X9_unpack_2_b (x0 x1 x3 : Int) (σ : zM) : Option ((Int × zM) ⊕ zO) :=
  (zgf σ 907 x0).bind fun v1 =>
  if v1 ≤ x3 then
    (f_X9_unpack_32 x0 x1 σ).map (fun r => (.inr r))
  else
    (zgf σ 955 x0).bind fun v2 =>
    (zpa σ 101 v2 x3 (zl2i (jand (jshr x1 (zmul 3 x3)) 7))).bind fun σ3 =>
    zlet (zadd x3 1) fun y4 =>
    some (.inl (y4, σ3))
noncomputable def f_X9_unpack_2 (x0 x1 x3 : Int) (σ : zM) : Option zO :=
  zloop (fun s : Int × zM => f_X9_unpack_2_b x0 x1 s.1 s.2) (x3, σ)
theorem w_X9_unpack_2_b {g : zG} {lv : Nat} {out : zO} (x0 x1 x3 : Int) (σ : zM) {r : ((Int × zM) ⊕ zO)} (h : f_X9_unpack_2_b x0 x1 x3 σ = some r) (hk : (zKL (fun s : Int × zM => Gj g MX9_unpack (lv) 2 [(0, zr x0), (1, zj x1), (3, zi s.1)] [] s.2 out) (fun o : zO => o = out)) r) : Gj g MX9_unpack (lv) 2 [(0, zr x0), (1, zj x1), (3, zi x3)] [] σ out := by
  revert h
  unfold f_X9_unpack_2_b
  refine zst_ (gj_iload_n 2 (pc := 2) dX9_unpack_2 rfl) ?_
  refine zst_ (gj_aload_n 0 (pc := 3) dX9_unpack_3 rfl) ?_
  refine gb_get (pc := 4) fl907 dX9_unpack_4 q1889 (Or.inl rfl) (fun v1 => ?_)
  refine gb_if (gj_icmp_ge 32 (pc := 7) dX9_unpack_7 (by decide)) ?_ ?_
  · refine zst_ (gj_sub [0, 1] rfl) ?_
    intro h
    obtain ⟨r0, h0, rfl⟩ := zmE h
    exact w_X9_unpack_32 x0 x1 σ h0 hk
  · refine zst_ (gj_aload_n 0 (pc := 10) dX9_unpack_10 rfl) ?_
    refine gb_get (pc := 11) fl955 dX9_unpack_11 q1937 (Or.inl rfl) (fun v2 => ?_)
    refine zst_ (gj_iload_n 2 (pc := 14) dX9_unpack_14 rfl) ?_
    refine zst_ (gj_lload_n 1 (pc := 15) dX9_unpack_15 rfl) ?_
    refine zst_ (gj_iconst (pc := 16) dX9_unpack_16 (by decide)) ?_
    refine zst_ (gj_iload_n 2 (pc := 17) dX9_unpack_17 rfl) ?_
    refine zst_ (gj_imul (pc := 18) dX9_unpack_18) ?_
    refine zst_ (gj_lshr (pc := 19) dX9_unpack_19) ?_
    refine zst_ (gj_ldc2 (pc := 20) (a := 7) dX9_unpack_20 q2253 (by decide +kernel)) ?_
    refine zst_ (gj_land (pc := 23) dX9_unpack_23) ?_
    refine zst_ (gj_l2i (pc := 24) dX9_unpack_24) ?_
    refine gb_iast (pc := 25) dX9_unpack_25 (fun σ3 => ?_)
    refine gb_iinc (pc := 26) 2 (fun y4 => [(3, zi y4), (0, zr x0), (1, zj x1)]) dX9_unpack_26 rfl (by decide) (fun _ => rfl) (fun y4 => ?_)
    refine zst_ (gj_goto 2 (pc := 29) dX9_unpack_29 (by decide)) ?_
    refine zst_ (gj_sub [1, 2, 0] rfl) ?_
    intro h
    cases h
    exact hk
theorem w_X9_unpack_2 {g : zG} {lv : Nat} {out : zO} (x0 x1 x3 : Int) (σ : zM) {r : zO} (h : f_X9_unpack_2 x0 x1 x3 σ = some r) (hk : (fun o : zO => o = out) r) : Gj g MX9_unpack (lv) 2 [(0, zr x0), (1, zj x1), (3, zi x3)] [] σ out :=
  gj_loop (P := (fun s : Int × zM => Gj g MX9_unpack (lv) 2 [(0, zr x0), (1, zj x1), (3, zi s.1)] [] s.2 out)) (fun s x hb hx => w_X9_unpack_2_b x0 x1 s.1 s.2 hb hx) h hk
noncomputable def f_X9_unpack (x0 x1 : Int) (σ : zM) : Option zO :=
  f_X9_unpack_2 x0 x1 0 σ
theorem c_X9_unpack {g : zG} {lv : Nat} {x0 x1 : Int} {σ : zM} {out : zO} (h : f_X9_unpack x0 x1 σ = some out) : Cj g (lv) MX9_unpack [zr x0, zj x1] σ out := by
  refine cj_go (ls := [(0, zr x0), (1, zj x1)]) (by decide) (Nat.le_of_ble_eq_true rfl) rfl (zgen h (fun r hk => ?_))
  unfold f_X9_unpack
  refine zst_ (gj_iconst (pc := 0) dX9_unpack_0 (by decide)) ?_
  refine zst_ (gj_istore_n (pc := 1) (ls' := [(3, zi 0), (0, zr x0), (1, zj x1)]) dX9_unpack_1 (by decide) rfl) ?_
  refine zst_ (gj_sub [1, 2, 0] rfl) ?_
  exact fun h => w_X9_unpack_2 x0 x1 0 σ h hk
theorem q2263 : (Jvm.Cond.code ({ cls := "LassoFinderModel", name := "maskOf", desc := "(I)J" } : Jvm.MethodName) prog_22_method_30_code (2 : Nat) (Option.some Jvm.ClassFile.FieldType.long)) ∈ lw_all := lw_g (lw_at lw_m10 3 rfl) rfl
abbrev cX9_maskOf : ByteArray := prog_22_method_30_code
def yX9_maskOf : MethodName := ⟨RX9, "maskOf", "(I)J"⟩
theorem dX9_maskOf_0 : decode cX9_maskOf 0 = .ok (.aload_n 0, 1) := by decide +kernel
theorem dX9_maskOf_1 : decode cX9_maskOf 1 = .ok (.getfield 139, 3) := by decide +kernel
theorem dX9_maskOf_4 : decode cX9_maskOf 4 = .ok (.iload_n 1, 1) := by decide +kernel
theorem dX9_maskOf_5 : decode cX9_maskOf 5 = .ok (.iaload, 1) := by decide +kernel
theorem dX9_maskOf_6 : decode cX9_maskOf 6 = .ok (.aload_n 0, 1) := by decide +kernel
theorem dX9_maskOf_7 : decode cX9_maskOf 7 = .ok (.getfield 75, 3) := by decide +kernel
theorem dX9_maskOf_10 : decode cX9_maskOf 10 = .ok (.iload_n 1, 1) := by decide +kernel
theorem dX9_maskOf_11 : decode cX9_maskOf 11 = .ok (.iaload, 1) := by decide +kernel
theorem dX9_maskOf_12 : decode cX9_maskOf 12 = .ok (.if_icmp .ne 7, 3) := by decide +kernel
theorem dX9_maskOf_15 : decode cX9_maskOf 15 = .ok (.lconst 0, 1) := by decide +kernel
theorem dX9_maskOf_16 : decode cX9_maskOf 16 = .ok (.goto 19, 3) := by decide +kernel
theorem dX9_maskOf_19 : decode cX9_maskOf 19 = .ok (.aload_n 0, 1) := by decide +kernel
theorem dX9_maskOf_20 : decode cX9_maskOf 20 = .ok (.getfield 87, 3) := by decide +kernel
theorem dX9_maskOf_23 : decode cX9_maskOf 23 = .ok (.bipush 31, 2) := by decide +kernel
theorem dX9_maskOf_25 : decode cX9_maskOf 25 = .ok (.iload_n 1, 1) := by decide +kernel
theorem dX9_maskOf_26 : decode cX9_maskOf 26 = .ok (.imul, 1) := by decide +kernel
theorem dX9_maskOf_27 : decode cX9_maskOf 27 = .ok (.aload_n 0, 1) := by decide +kernel
theorem dX9_maskOf_28 : decode cX9_maskOf 28 = .ok (.getfield 139, 3) := by decide +kernel
theorem dX9_maskOf_31 : decode cX9_maskOf 31 = .ok (.iload_n 1, 1) := by decide +kernel
theorem dX9_maskOf_32 : decode cX9_maskOf 32 = .ok (.iaload, 1) := by decide +kernel
theorem dX9_maskOf_33 : decode cX9_maskOf 33 = .ok (.iadd, 1) := by decide +kernel
theorem dX9_maskOf_34 : decode cX9_maskOf 34 = .ok (.laload, 1) := by decide +kernel
theorem dX9_maskOf_35 : decode cX9_maskOf 35 = .ok (.lreturn, 1) := by decide +kernel
abbrev MX9_maskOf : zT := (yX9_maskOf, cX9_maskOf, 2, (Option.some Jvm.ClassFile.FieldType.long), [])
theorem plX9_maskOf : zplain MX9_maskOf 1 ∧ (zcodeW MX9_maskOf ∈ lw_all ∧ Cond.initialized MX9_maskOf.1.cls ∈ lw_all) := ⟨⟨by decide +kernel, by decide +kernel⟩, q2263, q127⟩
noncomputable def f_X9_maskOf_35 (t0 : Int) (σ : zM) : Option zO :=
  some (0, zj t0, σ)
theorem w_X9_maskOf_35 {g : zG} {lv : Nat} {out : zO} (t0 : Int) (σ : zM) {r : zO} (h : f_X9_maskOf_35 t0 σ = some r) (hk : (fun o : zO => o = out) r) : Gj g MX9_maskOf (lv) 35 [] [zj t0] σ out := by
  revert h
  unfold f_X9_maskOf_35
  intro h
  cases h
  have hk : (0, zj t0, σ) = out := hk
  subst hk
  exact gj_lret (pc := 35) dX9_maskOf_35 rfl
noncomputable def f_X9_maskOf (x0 x1 : Int) (σ : zM) : Option zO :=
  (zgf σ 958 x0).bind fun v1 =>
  (zga σ 101 v1 x1).bind fun v2 =>
  (zgf σ 931 x0).bind fun v3 =>
  (zga σ 101 v3 x1).bind fun v4 =>
  if v2 ≠ v4 then
    (zgf σ 935 x0).bind fun v5 =>
    (zgf σ 958 x0).bind fun v6 =>
    (zga σ 101 v6 x1).bind fun v7 =>
    (zga σ 102 v5 (zadd (zmul 31 x1) v7)).bind fun v8 =>
    f_X9_maskOf_35 v8 σ
  else
    f_X9_maskOf_35 0 σ
theorem c_X9_maskOf {g : zG} {lv : Nat} {x0 x1 : Int} {σ : zM} {out : zO} (h : f_X9_maskOf x0 x1 σ = some out) : Cj g (lv) MX9_maskOf [zr x0, zi x1] σ out := by
  refine cj_go (ls := [(0, zr x0), (1, zi x1)]) (by decide) (Nat.le_of_ble_eq_true rfl) rfl (zgen h (fun r hk => ?_))
  unfold f_X9_maskOf
  refine zst_ (gj_aload_n 0 (pc := 0) dX9_maskOf_0 rfl) ?_
  refine gb_get (pc := 1) fl958 dX9_maskOf_1 q1940 (Or.inl rfl) (fun v1 => ?_)
  refine zst_ (gj_iload_n 1 (pc := 4) dX9_maskOf_4 rfl) ?_
  refine gb_iald (pc := 5) dX9_maskOf_5 (fun v2 => ?_)
  refine zst_ (gj_aload_n 0 (pc := 6) dX9_maskOf_6 rfl) ?_
  refine gb_get (pc := 7) fl931 dX9_maskOf_7 q1913 (Or.inl rfl) (fun v3 => ?_)
  refine zst_ (gj_iload_n 1 (pc := 10) dX9_maskOf_10 rfl) ?_
  refine gb_iald (pc := 11) dX9_maskOf_11 (fun v4 => ?_)
  refine gb_if (gj_icmp_ne 19 (pc := 12) dX9_maskOf_12 (by decide)) ?_ ?_
  · refine zst_ (gj_aload_n 0 (pc := 19) dX9_maskOf_19 rfl) ?_
    refine gb_get (pc := 20) fl935 dX9_maskOf_20 q1917 (Or.inl rfl) (fun v5 => ?_)
    refine zst_ (gj_bipush (pc := 23) dX9_maskOf_23 ⟨rfl, by decide⟩) ?_
    refine zst_ (gj_iload_n 1 (pc := 25) dX9_maskOf_25 rfl) ?_
    refine zst_ (gj_imul (pc := 26) dX9_maskOf_26) ?_
    refine zst_ (gj_aload_n 0 (pc := 27) dX9_maskOf_27 rfl) ?_
    refine gb_get (pc := 28) fl958 dX9_maskOf_28 q1940 (Or.inl rfl) (fun v6 => ?_)
    refine zst_ (gj_iload_n 1 (pc := 31) dX9_maskOf_31 rfl) ?_
    refine gb_iald (pc := 32) dX9_maskOf_32 (fun v7 => ?_)
    refine zst_ (gj_iadd (pc := 33) dX9_maskOf_33) ?_
    refine gb_lald (pc := 34) dX9_maskOf_34 (fun v8 => ?_)
    refine zst_ (gj_sub [] rfl) ?_
    exact fun h => w_X9_maskOf_35 v8 σ h hk
  · refine zst_ (gj_lconst0 (pc := 15) dX9_maskOf_15) ?_
    refine zst_ (gj_goto 35 (pc := 16) dX9_maskOf_16 (by decide)) ?_
    refine zst_ (gj_sub [] rfl) ?_
    exact fun h => w_X9_maskOf_35 0 σ h hk
theorem q2271 : (Jvm.Cond.code ({ cls := "LassoFinderModel", name := "worth", desc := "(II)I" } : Jvm.MethodName) prog_22_method_13_code (8 : Nat) (Option.some Jvm.ClassFile.FieldType.int)) ∈ lw_all := lw_g (lw_at lw_m10 11 rfl) rfl
abbrev cX9_worth : ByteArray := prog_22_method_13_code
def yX9_worth : MethodName := ⟨RX9, "worth", "(II)I"⟩
theorem dX9_worth_0 : decode cX9_worth 0 = .ok (.iconst 0, 1) := by decide +kernel
theorem dX9_worth_1 : decode cX9_worth 1 = .ok (.istore_n 3, 1) := by decide +kernel
theorem dX9_worth_2 : decode cX9_worth 2 = .ok (.iload_n 1, 1) := by decide +kernel
theorem dX9_worth_3 : decode cX9_worth 3 = .ok (.istore 4, 2) := by decide +kernel
theorem dX9_worth_5 : decode cX9_worth 5 = .ok (.iload 4, 2) := by decide +kernel
theorem dX9_worth_7 : decode cX9_worth 7 = .ok (.iload_n 2, 1) := by decide +kernel
theorem dX9_worth_8 : decode cX9_worth 8 = .ok (.if_icmp .ge 221, 3) := by decide +kernel
theorem dX9_worth_11 : decode cX9_worth 11 = .ok (.aload_n 0, 1) := by decide +kernel
theorem dX9_worth_12 : decode cX9_worth 12 = .ok (.getfield 91, 3) := by decide +kernel
theorem dX9_worth_15 : decode cX9_worth 15 = .ok (.iload 4, 2) := by decide +kernel
theorem dX9_worth_17 : decode cX9_worth 17 = .ok (.iaload, 1) := by decide +kernel
theorem dX9_worth_18 : decode cX9_worth 18 = .ok (.istore 5, 2) := by decide +kernel
theorem dX9_worth_20 : decode cX9_worth 20 = .ok (.iload 5, 2) := by decide +kernel
theorem dX9_worth_22 : decode cX9_worth 22 = .ok (.bipush 8, 2) := by decide +kernel
theorem dX9_worth_24 : decode cX9_worth 24 = .ok (.if_icmp .ge 17, 3) := by decide +kernel
theorem dX9_worth_27 : decode cX9_worth 27 = .ok (.aload_n 0, 1) := by decide +kernel
theorem dX9_worth_28 : decode cX9_worth 28 = .ok (.getfield 142, 3) := by decide +kernel
theorem dX9_worth_31 : decode cX9_worth 31 = .ok (.iload_n 3, 1) := by decide +kernel
theorem dX9_worth_32 : decode cX9_worth 32 = .ok (.iload 5, 2) := by decide +kernel
theorem dX9_worth_34 : decode cX9_worth 34 = .ok (.iastore, 1) := by decide +kernel
theorem dX9_worth_35 : decode cX9_worth 35 = .ok (.iinc 3 1, 3) := by decide +kernel
theorem dX9_worth_38 : decode cX9_worth 38 = .ok (.goto 185, 3) := by decide +kernel
theorem dX9_worth_41 : decode cX9_worth 41 = .ok (.iload 5, 2) := by decide +kernel
theorem dX9_worth_43 : decode cX9_worth 43 = .ok (.bipush 16, 2) := by decide +kernel
theorem dX9_worth_45 : decode cX9_worth 45 = .ok (.if_icmp .ge 61, 3) := by decide +kernel
theorem dX9_worth_48 : decode cX9_worth 48 = .ok (.aload_n 0, 1) := by decide +kernel
theorem dX9_worth_49 : decode cX9_worth 49 = .ok (.getfield 142, 3) := by decide +kernel
theorem dX9_worth_52 : decode cX9_worth 52 = .ok (.iload_n 3, 1) := by decide +kernel
theorem dX9_worth_53 : decode cX9_worth 53 = .ok (.aload_n 0, 1) := by decide +kernel
theorem dX9_worth_54 : decode cX9_worth 54 = .ok (.getfield 17, 3) := by decide +kernel
theorem dX9_worth_57 : decode cX9_worth 57 = .ok (.iload 5, 2) := by decide +kernel
theorem dX9_worth_59 : decode cX9_worth 59 = .ok (.bipush 8, 2) := by decide +kernel
theorem dX9_worth_61 : decode cX9_worth 61 = .ok (.isub, 1) := by decide +kernel
theorem dX9_worth_62 : decode cX9_worth 62 = .ok (.iaload, 1) := by decide +kernel
theorem dX9_worth_63 : decode cX9_worth 63 = .ok (.ifCond .lt 21, 3) := by decide +kernel
theorem dX9_worth_66 : decode cX9_worth 66 = .ok (.aload_n 0, 1) := by decide +kernel
theorem dX9_worth_67 : decode cX9_worth 67 = .ok (.getfield 130, 3) := by decide +kernel
theorem dX9_worth_70 : decode cX9_worth 70 = .ok (.aload_n 0, 1) := by decide +kernel
theorem dX9_worth_71 : decode cX9_worth 71 = .ok (.getfield 17, 3) := by decide +kernel
theorem dX9_worth_74 : decode cX9_worth 74 = .ok (.iload 5, 2) := by decide +kernel
theorem dX9_worth_76 : decode cX9_worth 76 = .ok (.bipush 8, 2) := by decide +kernel
theorem dX9_worth_78 : decode cX9_worth 78 = .ok (.isub, 1) := by decide +kernel
theorem dX9_worth_79 : decode cX9_worth 79 = .ok (.iaload, 1) := by decide +kernel
theorem dX9_worth_80 : decode cX9_worth 80 = .ok (.iaload, 1) := by decide +kernel
theorem dX9_worth_81 : decode cX9_worth 81 = .ok (.goto 18, 3) := by decide +kernel
theorem dX9_worth_84 : decode cX9_worth 84 = .ok (.aload_n 0, 1) := by decide +kernel
theorem dX9_worth_85 : decode cX9_worth 85 = .ok (.getfield 133, 3) := by decide +kernel
theorem dX9_worth_88 : decode cX9_worth 88 = .ok (.aload_n 0, 1) := by decide +kernel
theorem dX9_worth_89 : decode cX9_worth 89 = .ok (.getfield 20, 3) := by decide +kernel
theorem dX9_worth_92 : decode cX9_worth 92 = .ok (.iload 5, 2) := by decide +kernel
theorem dX9_worth_94 : decode cX9_worth 94 = .ok (.bipush 8, 2) := by decide +kernel
theorem dX9_worth_96 : decode cX9_worth 96 = .ok (.isub, 1) := by decide +kernel
theorem dX9_worth_97 : decode cX9_worth 97 = .ok (.iaload, 1) := by decide +kernel
theorem dX9_worth_98 : decode cX9_worth 98 = .ok (.iaload, 1) := by decide +kernel
theorem dX9_worth_99 : decode cX9_worth 99 = .ok (.iastore, 1) := by decide +kernel
theorem dX9_worth_100 : decode cX9_worth 100 = .ok (.iinc 3 1, 3) := by decide +kernel
theorem dX9_worth_103 : decode cX9_worth 103 = .ok (.goto 120, 3) := by decide +kernel
theorem dX9_worth_106 : decode cX9_worth 106 = .ok (.iinc 3 (-1), 3) := by decide +kernel
theorem dX9_worth_109 : decode cX9_worth 109 = .ok (.aload_n 0, 1) := by decide +kernel
theorem dX9_worth_110 : decode cX9_worth 110 = .ok (.getfield 142, 3) := by decide +kernel
theorem dX9_worth_113 : decode cX9_worth 113 = .ok (.iload_n 3, 1) := by decide +kernel
theorem dX9_worth_114 : decode cX9_worth 114 = .ok (.iconst 1, 1) := by decide +kernel
theorem dX9_worth_115 : decode cX9_worth 115 = .ok (.isub, 1) := by decide +kernel
theorem dX9_worth_116 : decode cX9_worth 116 = .ok (.iaload, 1) := by decide +kernel
theorem dX9_worth_117 : decode cX9_worth 117 = .ok (.istore 6, 2) := by decide +kernel
theorem dX9_worth_119 : decode cX9_worth 119 = .ok (.aload_n 0, 1) := by decide +kernel
theorem dX9_worth_120 : decode cX9_worth 120 = .ok (.getfield 142, 3) := by decide +kernel
theorem dX9_worth_123 : decode cX9_worth 123 = .ok (.iload_n 3, 1) := by decide +kernel
theorem dX9_worth_124 : decode cX9_worth 124 = .ok (.iaload, 1) := by decide +kernel
theorem dX9_worth_125 : decode cX9_worth 125 = .ok (.istore 7, 2) := by decide +kernel
theorem dX9_worth_127 : decode cX9_worth 127 = .ok (.aload_n 0, 1) := by decide +kernel
theorem dX9_worth_128 : decode cX9_worth 128 = .ok (.getfield 142, 3) := by decide +kernel
theorem dX9_worth_131 : decode cX9_worth 131 = .ok (.iload_n 3, 1) := by decide +kernel
theorem dX9_worth_132 : decode cX9_worth 132 = .ok (.iconst 1, 1) := by decide +kernel
theorem dX9_worth_133 : decode cX9_worth 133 = .ok (.isub, 1) := by decide +kernel
theorem dX9_worth_134 : decode cX9_worth 134 = .ok (.iload 5, 2) := by decide +kernel
theorem dX9_worth_136 : decode cX9_worth 136 = .ok (.bipush 16, 2) := by decide +kernel
theorem dX9_worth_138 : decode cX9_worth 138 = .ok (.if_icmp .ne 14, 3) := by decide +kernel
theorem dX9_worth_141 : decode cX9_worth 141 = .ok (.iload 6, 2) := by decide +kernel
theorem dX9_worth_143 : decode cX9_worth 143 = .ok (.iload 7, 2) := by decide +kernel
theorem dX9_worth_145 : decode cX9_worth 145 = .ok (.iadd, 1) := by decide +kernel
theorem dX9_worth_146 : decode cX9_worth 146 = .ok (.bipush 7, 2) := by decide +kernel
theorem dX9_worth_148 : decode cX9_worth 148 = .ok (.iand, 1) := by decide +kernel
theorem dX9_worth_149 : decode cX9_worth 149 = .ok (.goto 73, 3) := by decide +kernel
theorem dX9_worth_152 : decode cX9_worth 152 = .ok (.iload 5, 2) := by decide +kernel
theorem dX9_worth_154 : decode cX9_worth 154 = .ok (.bipush 17, 2) := by decide +kernel
theorem dX9_worth_156 : decode cX9_worth 156 = .ok (.if_icmp .ne 14, 3) := by decide +kernel
theorem dX9_worth_159 : decode cX9_worth 159 = .ok (.iload 6, 2) := by decide +kernel
theorem dX9_worth_161 : decode cX9_worth 161 = .ok (.iload 7, 2) := by decide +kernel
theorem dX9_worth_163 : decode cX9_worth 163 = .ok (.isub, 1) := by decide +kernel
theorem dX9_worth_164 : decode cX9_worth 164 = .ok (.bipush 7, 2) := by decide +kernel
theorem dX9_worth_166 : decode cX9_worth 166 = .ok (.iand, 1) := by decide +kernel
theorem dX9_worth_167 : decode cX9_worth 167 = .ok (.goto 55, 3) := by decide +kernel
theorem dX9_worth_170 : decode cX9_worth 170 = .ok (.iload 5, 2) := by decide +kernel
theorem dX9_worth_172 : decode cX9_worth 172 = .ok (.bipush 18, 2) := by decide +kernel
theorem dX9_worth_174 : decode cX9_worth 174 = .ok (.if_icmp .ne 14, 3) := by decide +kernel
theorem dX9_worth_177 : decode cX9_worth 177 = .ok (.iload 6, 2) := by decide +kernel
theorem dX9_worth_179 : decode cX9_worth 179 = .ok (.iload 7, 2) := by decide +kernel
theorem dX9_worth_181 : decode cX9_worth 181 = .ok (.imul, 1) := by decide +kernel
theorem dX9_worth_182 : decode cX9_worth 182 = .ok (.bipush 7, 2) := by decide +kernel
theorem dX9_worth_184 : decode cX9_worth 184 = .ok (.iand, 1) := by decide +kernel
theorem dX9_worth_185 : decode cX9_worth 185 = .ok (.goto 37, 3) := by decide +kernel
theorem dX9_worth_188 : decode cX9_worth 188 = .ok (.iload 5, 2) := by decide +kernel
theorem dX9_worth_190 : decode cX9_worth 190 = .ok (.bipush 19, 2) := by decide +kernel
theorem dX9_worth_192 : decode cX9_worth 192 = .ok (.if_icmp .ne 18, 3) := by decide +kernel
theorem dX9_worth_195 : decode cX9_worth 195 = .ok (.iload 6, 2) := by decide +kernel
theorem dX9_worth_197 : decode cX9_worth 197 = .ok (.iload 7, 2) := by decide +kernel
theorem dX9_worth_199 : decode cX9_worth 199 = .ok (.if_icmp .ne 7, 3) := by decide +kernel
theorem dX9_worth_202 : decode cX9_worth 202 = .ok (.iconst 1, 1) := by decide +kernel
theorem dX9_worth_203 : decode cX9_worth 203 = .ok (.goto 19, 3) := by decide +kernel
theorem dX9_worth_206 : decode cX9_worth 206 = .ok (.iconst 0, 1) := by decide +kernel
theorem dX9_worth_207 : decode cX9_worth 207 = .ok (.goto 15, 3) := by decide +kernel
theorem dX9_worth_210 : decode cX9_worth 210 = .ok (.iload 6, 2) := by decide +kernel
theorem dX9_worth_212 : decode cX9_worth 212 = .ok (.iload 7, 2) := by decide +kernel
theorem dX9_worth_214 : decode cX9_worth 214 = .ok (.if_icmp .ge 7, 3) := by decide +kernel
theorem dX9_worth_217 : decode cX9_worth 217 = .ok (.iconst 1, 1) := by decide +kernel
theorem dX9_worth_218 : decode cX9_worth 218 = .ok (.goto 4, 3) := by decide +kernel
theorem dX9_worth_221 : decode cX9_worth 221 = .ok (.iconst 0, 1) := by decide +kernel
theorem dX9_worth_222 : decode cX9_worth 222 = .ok (.iastore, 1) := by decide +kernel
theorem dX9_worth_223 : decode cX9_worth 223 = .ok (.iinc 4 1, 3) := by decide +kernel
theorem dX9_worth_226 : decode cX9_worth 226 = .ok (.goto (-221), 3) := by decide +kernel
theorem dX9_worth_229 : decode cX9_worth 229 = .ok (.aload_n 0, 1) := by decide +kernel
theorem dX9_worth_230 : decode cX9_worth 230 = .ok (.getfield 142, 3) := by decide +kernel
theorem dX9_worth_233 : decode cX9_worth 233 = .ok (.iconst 0, 1) := by decide +kernel
theorem dX9_worth_234 : decode cX9_worth 234 = .ok (.iaload, 1) := by decide +kernel
theorem dX9_worth_235 : decode cX9_worth 235 = .ok (.ireturn, 1) := by decide +kernel
abbrev MX9_worth : zT := (yX9_worth, cX9_worth, 8, (Option.some Jvm.ClassFile.FieldType.int), [])
theorem plX9_worth : zplain MX9_worth 2 ∧ (zcodeW MX9_worth ∈ lw_all ∧ Cond.initialized MX9_worth.1.cls ∈ lw_all) := ⟨⟨by decide +kernel, by decide +kernel⟩, q2271, q127⟩
noncomputable def f_X9_worth_229 (x0 : Int) (σ : zM) : Option zO :=
  (zgf σ 960 x0).bind fun v1 =>
  (zga σ 101 v1 0).bind fun v2 =>
  some (0, zi v2, σ)
theorem w_X9_worth_229 {g : zG} {lv : Nat} {out : zO} (x0 : Int) (σ : zM) {r : zO} (h : f_X9_worth_229 x0 σ = some r) (hk : (fun o : zO => o = out) r) : Gj g MX9_worth (lv) 229 [(0, zr x0)] [] σ out := by
  revert h
  unfold f_X9_worth_229
  refine zst_ (gj_aload_n 0 (pc := 229) dX9_worth_229 rfl) ?_
  refine gb_get (pc := 230) fl960 dX9_worth_230 q1942 (Or.inl rfl) (fun v1 => ?_)
  refine zst_ (gj_iconst (pc := 233) dX9_worth_233 (by decide)) ?_
  refine gb_iald (pc := 234) dX9_worth_234 (fun v2 => ?_)
  intro h
  cases h
  have hk : (0, zi v2, σ) = out := hk
  subst hk
  exact gj_ret (pc := 235) (t := .int) dX9_worth_235 rfl ⟨rfl, rfl⟩ (fun h => h)
noncomputable def f_X9_worth_223 (x0 x2 x3 x4 : Int) (σ : zM) : Option ((Int × Int × zM) ⊕ zO) :=
  zlet (zadd x4 1) fun y1 =>
  some (.inl (x3, y1, σ))
theorem w_X9_worth_223 {g : zG} {lv : Nat} {out : zO} (x0 x2 x3 x4 : Int) (σ : zM) {r : ((Int × Int × zM) ⊕ zO)} (h : f_X9_worth_223 x0 x2 x3 x4 σ = some r) (hk : (zKL (fun s : Int × Int × zM => Gj g MX9_worth (lv) 5 [(0, zr x0), (2, zi x2), (3, zi s.1), (4, zi s.2.1)] [] s.2.2 out) (fun o : zO => o = out)) r) : Gj g MX9_worth (lv) 223 [(0, zr x0), (2, zi x2), (3, zi x3), (4, zi x4)] [] σ out := by
  revert h
  unfold f_X9_worth_223
  refine gb_iinc (pc := 223) 3 (fun y1 => [(4, zi y1), (0, zr x0), (2, zi x2), (3, zi x3)]) dX9_worth_223 rfl (by decide) (fun _ => rfl) (fun y1 => ?_)
  refine zst_ (gj_goto 5 (pc := 226) dX9_worth_226 (by decide)) ?_
  refine zst_ (gj_sub [1, 2, 3, 0] rfl) ?_
  intro h
  cases h
  exact hk
noncomputable def f_X9_worth_222 (x0 x2 x3 x4 t0 t1 t2 : Int) (σ : zM) : Option ((Int × Int × zM) ⊕ zO) :=
  (zpa σ 101 t2 t1 t0).bind fun σ1 =>
  f_X9_worth_223 x0 x2 x3 x4 σ1
theorem w_X9_worth_222 {g : zG} {lv : Nat} {out : zO} (x0 x2 x3 x4 t0 t1 t2 : Int) (σ : zM) {r : ((Int × Int × zM) ⊕ zO)} (h : f_X9_worth_222 x0 x2 x3 x4 t0 t1 t2 σ = some r) (hk : (zKL (fun s : Int × Int × zM => Gj g MX9_worth (lv) 5 [(0, zr x0), (2, zi x2), (3, zi s.1), (4, zi s.2.1)] [] s.2.2 out) (fun o : zO => o = out)) r) : Gj g MX9_worth (lv) 222 [(0, zr x0), (2, zi x2), (3, zi x3), (4, zi x4)] [zi t0, zi t1, zr t2] σ out := by
  revert h
  unfold f_X9_worth_222
  refine gb_iast (pc := 222) dX9_worth_222 (fun σ1 => ?_)
  exact fun h => w_X9_worth_223 x0 x2 x3 x4 σ1 h hk
noncomputable def f_X9_worth_99 (x0 x2 x3 x4 t0 t1 t2 : Int) (σ : zM) : Option ((Int × Int × zM) ⊕ zO) :=
  (zpa σ 101 t2 t1 t0).bind fun σ1 =>
  zlet (zadd x3 1) fun y2 =>
  f_X9_worth_223 x0 x2 y2 x4 σ1
theorem w_X9_worth_99 {g : zG} {lv : Nat} {out : zO} (x0 x2 x3 x4 t0 t1 t2 : Int) (σ : zM) {r : ((Int × Int × zM) ⊕ zO)} (h : f_X9_worth_99 x0 x2 x3 x4 t0 t1 t2 σ = some r) (hk : (zKL (fun s : Int × Int × zM => Gj g MX9_worth (lv) 5 [(0, zr x0), (2, zi x2), (3, zi s.1), (4, zi s.2.1)] [] s.2.2 out) (fun o : zO => o = out)) r) : Gj g MX9_worth (lv) 99 [(0, zr x0), (2, zi x2), (3, zi x3), (4, zi x4)] [zi t0, zi t1, zr t2] σ out := by
  revert h
  unfold f_X9_worth_99
  refine gb_iast (pc := 99) dX9_worth_99 (fun σ1 => ?_)
  refine gb_iinc (pc := 100) 2 (fun y2 => [(3, zi y2), (0, zr x0), (2, zi x2), (4, zi x4)]) dX9_worth_100 rfl (by decide) (fun _ => rfl) (fun y2 => ?_)
  refine zst_ (gj_goto 223 (pc := 103) dX9_worth_103 (by decide)) ?_
  refine zst_ (gj_sub [1, 2, 0, 3] rfl) ?_
  exact fun h => w_X9_worth_223 x0 x2 y2 x4 σ1 h hk
noncomputable def f_X9_worth_5_b (x0 x2 x3 x4 : Int) (σ : zM) : Option ((Int × Int × zM) ⊕ zO) :=
  if x2 ≤ x4 then
    (f_X9_worth_229 x0 σ).map (fun r => (.inr r))
  else
    (zgf σ 937 x0).bind fun v1 =>
    (zga σ 101 v1 x4).bind fun v2 =>
    if 8 ≤ v2 then
      if 16 ≤ v2 then
        zlet (zadd x3 (-1)) fun y3 =>
        (zgf σ 960 x0).bind fun v4 =>
        (zga σ 101 v4 (zsub y3 1)).bind fun v5 =>
        (zgf σ 960 x0).bind fun v6 =>
        (zga σ 101 v6 y3).bind fun v7 =>
        (zgf σ 960 x0).bind fun v8 =>
        if v2 ≠ 16 then
          if v2 ≠ 17 then
            if v2 ≠ 18 then
              if v2 ≠ 19 then
                if v7 ≤ v5 then
                  f_X9_worth_222 x0 x2 y3 x4 0 (zsub y3 1) v8 σ
                else
                  f_X9_worth_222 x0 x2 y3 x4 1 (zsub y3 1) v8 σ
              else
                if v5 ≠ v7 then
                  f_X9_worth_222 x0 x2 y3 x4 0 (zsub y3 1) v8 σ
                else
                  f_X9_worth_222 x0 x2 y3 x4 1 (zsub y3 1) v8 σ
            else
              f_X9_worth_222 x0 x2 y3 x4 (zand (zmul v5 v7) 7) (zsub y3 1) v8 σ
          else
            f_X9_worth_222 x0 x2 y3 x4 (zand (zsub v5 v7) 7) (zsub y3 1) v8 σ
        else
          f_X9_worth_222 x0 x2 y3 x4 (zand (zadd v5 v7) 7) (zsub y3 1) v8 σ
      else
        (zgf σ 960 x0).bind fun v9 =>
        (zgf σ 909 x0).bind fun v10 =>
        (zga σ 101 v10 (zsub v2 8)).bind fun v11 =>
        if v11 < 0 then
          (zgf σ 956 x0).bind fun v12 =>
          (zgf σ 910 x0).bind fun v13 =>
          (zga σ 101 v13 (zsub v2 8)).bind fun v14 =>
          (zga σ 101 v12 v14).bind fun v15 =>
          f_X9_worth_99 x0 x2 x3 x4 v15 x3 v9 σ
        else
          (zgf σ 955 x0).bind fun v16 =>
          (zgf σ 909 x0).bind fun v17 =>
          (zga σ 101 v17 (zsub v2 8)).bind fun v18 =>
          (zga σ 101 v16 v18).bind fun v19 =>
          f_X9_worth_99 x0 x2 x3 x4 v19 x3 v9 σ
    else
      (zgf σ 960 x0).bind fun v20 =>
      (zpa σ 101 v20 x3 v2).bind fun σ21 =>
      zlet (zadd x3 1) fun y22 =>
      f_X9_worth_223 x0 x2 y22 x4 σ21
noncomputable def f_X9_worth_5 (x0 x2 x3 x4 : Int) (σ : zM) : Option zO :=
  zloop (fun s : Int × Int × zM => f_X9_worth_5_b x0 x2 s.1 s.2.1 s.2.2) (x3, x4, σ)
theorem w_X9_worth_5_b {g : zG} {lv : Nat} {out : zO} (x0 x2 x3 x4 : Int) (σ : zM) {r : ((Int × Int × zM) ⊕ zO)} (h : f_X9_worth_5_b x0 x2 x3 x4 σ = some r) (hk : (zKL (fun s : Int × Int × zM => Gj g MX9_worth (lv) 5 [(0, zr x0), (2, zi x2), (3, zi s.1), (4, zi s.2.1)] [] s.2.2 out) (fun o : zO => o = out)) r) : Gj g MX9_worth (lv) 5 [(0, zr x0), (2, zi x2), (3, zi x3), (4, zi x4)] [] σ out := by
  revert h
  unfold f_X9_worth_5_b
  refine zst_ (gj_iload 3 (pc := 5) dX9_worth_5 rfl) ?_
  refine zst_ (gj_iload_n 1 (pc := 7) dX9_worth_7 rfl) ?_
  refine gb_if (gj_icmp_ge 229 (pc := 8) dX9_worth_8 (by decide)) ?_ ?_
  · refine zst_ (gj_sub [0] rfl) ?_
    intro h
    obtain ⟨r0, h0, rfl⟩ := zmE h
    exact w_X9_worth_229 x0 σ h0 hk
  · refine zst_ (gj_aload_n 0 (pc := 11) dX9_worth_11 rfl) ?_
    refine gb_get (pc := 12) fl937 dX9_worth_12 q1919 (Or.inl rfl) (fun v1 => ?_)
    refine zst_ (gj_iload 3 (pc := 15) dX9_worth_15 rfl) ?_
    refine gb_iald (pc := 17) dX9_worth_17 (fun v2 => ?_)
    refine zst_ (gj_istore (pc := 18) (ls' := [(5, zi v2), (0, zr x0), (2, zi x2), (3, zi x3), (4, zi x4)]) dX9_worth_18 (by decide) rfl) ?_
    refine zst_ (gj_iload 0 (pc := 20) dX9_worth_20 rfl) ?_
    refine zst_ (gj_bipush (pc := 22) dX9_worth_22 ⟨rfl, by decide⟩) ?_
    refine gb_if (gj_icmp_ge 41 (pc := 24) dX9_worth_24 (by decide)) ?_ ?_
    · refine zst_ (gj_iload 0 (pc := 41) dX9_worth_41 rfl) ?_
      refine zst_ (gj_bipush (pc := 43) dX9_worth_43 ⟨rfl, by decide⟩) ?_
      refine gb_if (gj_icmp_ge 106 (pc := 45) dX9_worth_45 (by decide)) ?_ ?_
      · refine gb_iinc (pc := 106) 3 (fun y3 => [(3, zi y3), (5, zi v2), (0, zr x0), (2, zi x2), (4, zi x4)]) dX9_worth_106 rfl (by decide) (fun _ => rfl) (fun y3 => ?_)
        refine zst_ (gj_aload_n 2 (pc := 109) dX9_worth_109 rfl) ?_
        refine gb_get (pc := 110) fl960 dX9_worth_110 q1942 (Or.inl rfl) (fun v4 => ?_)
        refine zst_ (gj_iload_n 0 (pc := 113) dX9_worth_113 rfl) ?_
        refine zst_ (gj_iconst (pc := 114) dX9_worth_114 (by decide)) ?_
        refine zst_ (gj_isub (pc := 115) dX9_worth_115) ?_
        refine gb_iald (pc := 116) dX9_worth_116 (fun v5 => ?_)
        refine zst_ (gj_istore (pc := 117) (ls' := [(6, zi v5), (3, zi y3), (5, zi v2), (0, zr x0), (2, zi x2), (4, zi x4)]) dX9_worth_117 (by decide) rfl) ?_
        refine zst_ (gj_aload_n 3 (pc := 119) dX9_worth_119 rfl) ?_
        refine gb_get (pc := 120) fl960 dX9_worth_120 q1942 (Or.inl rfl) (fun v6 => ?_)
        refine zst_ (gj_iload_n 1 (pc := 123) dX9_worth_123 rfl) ?_
        refine gb_iald (pc := 124) dX9_worth_124 (fun v7 => ?_)
        refine zst_ (gj_istore (pc := 125) (ls' := [(7, zi v7), (6, zi v5), (3, zi y3), (5, zi v2), (0, zr x0), (2, zi x2), (4, zi x4)]) dX9_worth_125 (by decide) rfl) ?_
        refine zst_ (gj_aload_n 4 (pc := 127) dX9_worth_127 rfl) ?_
        refine gb_get (pc := 128) fl960 dX9_worth_128 q1942 (Or.inl rfl) (fun v8 => ?_)
        refine zst_ (gj_iload_n 2 (pc := 131) dX9_worth_131 rfl) ?_
        refine zst_ (gj_iconst (pc := 132) dX9_worth_132 (by decide)) ?_
        refine zst_ (gj_isub (pc := 133) dX9_worth_133) ?_
        refine zst_ (gj_iload 3 (pc := 134) dX9_worth_134 rfl) ?_
        refine zst_ (gj_bipush (pc := 136) dX9_worth_136 ⟨rfl, by decide⟩) ?_
        refine gb_if (gj_icmp_ne 152 (pc := 138) dX9_worth_138 (by decide)) ?_ ?_
        · refine zst_ (gj_iload 3 (pc := 152) dX9_worth_152 rfl) ?_
          refine zst_ (gj_bipush (pc := 154) dX9_worth_154 ⟨rfl, by decide⟩) ?_
          refine gb_if (gj_icmp_ne 170 (pc := 156) dX9_worth_156 (by decide)) ?_ ?_
          · refine zst_ (gj_iload 3 (pc := 170) dX9_worth_170 rfl) ?_
            refine zst_ (gj_bipush (pc := 172) dX9_worth_172 ⟨rfl, by decide⟩) ?_
            refine gb_if (gj_icmp_ne 188 (pc := 174) dX9_worth_174 (by decide)) ?_ ?_
            · refine zst_ (gj_iload 3 (pc := 188) dX9_worth_188 rfl) ?_
              refine zst_ (gj_bipush (pc := 190) dX9_worth_190 ⟨rfl, by decide⟩) ?_
              refine gb_if (gj_icmp_ne 210 (pc := 192) dX9_worth_192 (by decide)) ?_ ?_
              · refine zst_ (gj_iload 1 (pc := 210) dX9_worth_210 rfl) ?_
                refine zst_ (gj_iload 0 (pc := 212) dX9_worth_212 rfl) ?_
                refine gb_if (gj_icmp_ge 221 (pc := 214) dX9_worth_214 (by decide)) ?_ ?_
                · refine zst_ (gj_iconst (pc := 221) dX9_worth_221 (by decide)) ?_
                  refine zst_ (gj_sub [4, 5, 2, 6] rfl) ?_
                  exact fun h => w_X9_worth_222 x0 x2 y3 x4 0 (zsub y3 1) v8 σ h hk
                · refine zst_ (gj_iconst (pc := 217) dX9_worth_217 (by decide)) ?_
                  refine zst_ (gj_goto 222 (pc := 218) dX9_worth_218 (by decide)) ?_
                  refine zst_ (gj_sub [4, 5, 2, 6] rfl) ?_
                  exact fun h => w_X9_worth_222 x0 x2 y3 x4 1 (zsub y3 1) v8 σ h hk
              · refine zst_ (gj_iload 1 (pc := 195) dX9_worth_195 rfl) ?_
                refine zst_ (gj_iload 0 (pc := 197) dX9_worth_197 rfl) ?_
                refine gb_if (gj_icmp_ne 206 (pc := 199) dX9_worth_199 (by decide)) ?_ ?_
                · refine zst_ (gj_iconst (pc := 206) dX9_worth_206 (by decide)) ?_
                  refine zst_ (gj_goto 222 (pc := 207) dX9_worth_207 (by decide)) ?_
                  refine zst_ (gj_sub [4, 5, 2, 6] rfl) ?_
                  exact fun h => w_X9_worth_222 x0 x2 y3 x4 0 (zsub y3 1) v8 σ h hk
                · refine zst_ (gj_iconst (pc := 202) dX9_worth_202 (by decide)) ?_
                  refine zst_ (gj_goto 222 (pc := 203) dX9_worth_203 (by decide)) ?_
                  refine zst_ (gj_sub [4, 5, 2, 6] rfl) ?_
                  exact fun h => w_X9_worth_222 x0 x2 y3 x4 1 (zsub y3 1) v8 σ h hk
            · refine zst_ (gj_iload 1 (pc := 177) dX9_worth_177 rfl) ?_
              refine zst_ (gj_iload 0 (pc := 179) dX9_worth_179 rfl) ?_
              refine zst_ (gj_imul (pc := 181) dX9_worth_181) ?_
              refine zst_ (gj_bipush (pc := 182) dX9_worth_182 ⟨rfl, by decide⟩) ?_
              refine zst_ (gj_iand (pc := 184) dX9_worth_184) ?_
              refine zst_ (gj_goto 222 (pc := 185) dX9_worth_185 (by decide)) ?_
              refine zst_ (gj_sub [4, 5, 2, 6] rfl) ?_
              exact fun h => w_X9_worth_222 x0 x2 y3 x4 (zand (zmul v5 v7) 7) (zsub y3 1) v8 σ h hk
          · refine zst_ (gj_iload 1 (pc := 159) dX9_worth_159 rfl) ?_
            refine zst_ (gj_iload 0 (pc := 161) dX9_worth_161 rfl) ?_
            refine zst_ (gj_isub (pc := 163) dX9_worth_163) ?_
            refine zst_ (gj_bipush (pc := 164) dX9_worth_164 ⟨rfl, by decide⟩) ?_
            refine zst_ (gj_iand (pc := 166) dX9_worth_166) ?_
            refine zst_ (gj_goto 222 (pc := 167) dX9_worth_167 (by decide)) ?_
            refine zst_ (gj_sub [4, 5, 2, 6] rfl) ?_
            exact fun h => w_X9_worth_222 x0 x2 y3 x4 (zand (zsub v5 v7) 7) (zsub y3 1) v8 σ h hk
        · refine zst_ (gj_iload 1 (pc := 141) dX9_worth_141 rfl) ?_
          refine zst_ (gj_iload 0 (pc := 143) dX9_worth_143 rfl) ?_
          refine zst_ (gj_iadd (pc := 145) dX9_worth_145) ?_
          refine zst_ (gj_bipush (pc := 146) dX9_worth_146 ⟨rfl, by decide⟩) ?_
          refine zst_ (gj_iand (pc := 148) dX9_worth_148) ?_
          refine zst_ (gj_goto 222 (pc := 149) dX9_worth_149 (by decide)) ?_
          refine zst_ (gj_sub [4, 5, 2, 6] rfl) ?_
          exact fun h => w_X9_worth_222 x0 x2 y3 x4 (zand (zadd v5 v7) 7) (zsub y3 1) v8 σ h hk
      · refine zst_ (gj_aload_n 1 (pc := 48) dX9_worth_48 rfl) ?_
        refine gb_get (pc := 49) fl960 dX9_worth_49 q1942 (Or.inl rfl) (fun v9 => ?_)
        refine zst_ (gj_iload_n 3 (pc := 52) dX9_worth_52 rfl) ?_
        refine zst_ (gj_aload_n 1 (pc := 53) dX9_worth_53 rfl) ?_
        refine gb_get (pc := 54) fl909 dX9_worth_54 q1891 (Or.inl rfl) (fun v10 => ?_)
        refine zst_ (gj_iload 0 (pc := 57) dX9_worth_57 rfl) ?_
        refine zst_ (gj_bipush (pc := 59) dX9_worth_59 ⟨rfl, by decide⟩) ?_
        refine zst_ (gj_isub (pc := 61) dX9_worth_61) ?_
        refine gb_iald (pc := 62) dX9_worth_62 (fun v11 => ?_)
        refine gb_if (gj_if_lt 84 (pc := 63) dX9_worth_63 (by decide)) ?_ ?_
        · refine zst_ (gj_aload_n 1 (pc := 84) dX9_worth_84 rfl) ?_
          refine gb_get (pc := 85) fl956 dX9_worth_85 q1938 (Or.inl rfl) (fun v12 => ?_)
          refine zst_ (gj_aload_n 1 (pc := 88) dX9_worth_88 rfl) ?_
          refine gb_get (pc := 89) fl910 dX9_worth_89 q1892 (Or.inl rfl) (fun v13 => ?_)
          refine zst_ (gj_iload 0 (pc := 92) dX9_worth_92 rfl) ?_
          refine zst_ (gj_bipush (pc := 94) dX9_worth_94 ⟨rfl, by decide⟩) ?_
          refine zst_ (gj_isub (pc := 96) dX9_worth_96) ?_
          refine gb_iald (pc := 97) dX9_worth_97 (fun v14 => ?_)
          refine gb_iald (pc := 98) dX9_worth_98 (fun v15 => ?_)
          refine zst_ (gj_sub [1, 2, 3, 4] rfl) ?_
          exact fun h => w_X9_worth_99 x0 x2 x3 x4 v15 x3 v9 σ h hk
        · refine zst_ (gj_aload_n 1 (pc := 66) dX9_worth_66 rfl) ?_
          refine gb_get (pc := 67) fl955 dX9_worth_67 q1937 (Or.inl rfl) (fun v16 => ?_)
          refine zst_ (gj_aload_n 1 (pc := 70) dX9_worth_70 rfl) ?_
          refine gb_get (pc := 71) fl909 dX9_worth_71 q1891 (Or.inl rfl) (fun v17 => ?_)
          refine zst_ (gj_iload 0 (pc := 74) dX9_worth_74 rfl) ?_
          refine zst_ (gj_bipush (pc := 76) dX9_worth_76 ⟨rfl, by decide⟩) ?_
          refine zst_ (gj_isub (pc := 78) dX9_worth_78) ?_
          refine gb_iald (pc := 79) dX9_worth_79 (fun v18 => ?_)
          refine gb_iald (pc := 80) dX9_worth_80 (fun v19 => ?_)
          refine zst_ (gj_goto 99 (pc := 81) dX9_worth_81 (by decide)) ?_
          refine zst_ (gj_sub [1, 2, 3, 4] rfl) ?_
          exact fun h => w_X9_worth_99 x0 x2 x3 x4 v19 x3 v9 σ h hk
    · refine zst_ (gj_aload_n 1 (pc := 27) dX9_worth_27 rfl) ?_
      refine gb_get (pc := 28) fl960 dX9_worth_28 q1942 (Or.inl rfl) (fun v20 => ?_)
      refine zst_ (gj_iload_n 3 (pc := 31) dX9_worth_31 rfl) ?_
      refine zst_ (gj_iload 0 (pc := 32) dX9_worth_32 rfl) ?_
      refine gb_iast (pc := 34) dX9_worth_34 (fun σ21 => ?_)
      refine gb_iinc (pc := 35) 3 (fun y22 => [(3, zi y22), (5, zi v2), (0, zr x0), (2, zi x2), (4, zi x4)]) dX9_worth_35 rfl (by decide) (fun _ => rfl) (fun y22 => ?_)
      refine zst_ (gj_goto 223 (pc := 38) dX9_worth_38 (by decide)) ?_
      refine zst_ (gj_sub [2, 3, 0, 4] rfl) ?_
      exact fun h => w_X9_worth_223 x0 x2 y22 x4 σ21 h hk
theorem w_X9_worth_5 {g : zG} {lv : Nat} {out : zO} (x0 x2 x3 x4 : Int) (σ : zM) {r : zO} (h : f_X9_worth_5 x0 x2 x3 x4 σ = some r) (hk : (fun o : zO => o = out) r) : Gj g MX9_worth (lv) 5 [(0, zr x0), (2, zi x2), (3, zi x3), (4, zi x4)] [] σ out :=
  gj_loop (P := (fun s : Int × Int × zM => Gj g MX9_worth (lv) 5 [(0, zr x0), (2, zi x2), (3, zi s.1), (4, zi s.2.1)] [] s.2.2 out)) (fun s x hb hx => w_X9_worth_5_b x0 x2 s.1 s.2.1 s.2.2 hb hx) h hk
noncomputable def f_X9_worth (x0 x1 x2 : Int) (σ : zM) : Option zO :=
  f_X9_worth_5 x0 x2 0 x1 σ
theorem c_X9_worth {g : zG} {lv : Nat} {x0 x1 x2 : Int} {σ : zM} {out : zO} (h : f_X9_worth x0 x1 x2 σ = some out) : Cj g (lv) MX9_worth [zr x0, zi x1, zi x2] σ out := by
  refine cj_go (ls := [(0, zr x0), (1, zi x1), (2, zi x2)]) (by decide) (Nat.le_of_ble_eq_true rfl) rfl (zgen h (fun r hk => ?_))
  unfold f_X9_worth
  refine zst_ (gj_iconst (pc := 0) dX9_worth_0 (by decide)) ?_
  refine zst_ (gj_istore_n (pc := 1) (ls' := [(3, zi 0), (0, zr x0), (1, zi x1), (2, zi x2)]) dX9_worth_1 (by decide) rfl) ?_
  refine zst_ (gj_iload_n 2 (pc := 2) dX9_worth_2 rfl) ?_
  refine zst_ (gj_istore (pc := 3) (ls' := [(4, zi x1), (3, zi 0), (0, zr x0), (1, zi x1), (2, zi x2)]) dX9_worth_3 (by decide) rfl) ?_
  refine zst_ (gj_sub [2, 4, 1, 0] rfl) ?_
  exact fun h => w_X9_worth_5 x0 x2 0 x1 σ h hk
theorem q2260 : (Jvm.Cond.methodLink "LassoFinderModel" (310 : Nat) ({ cls := "LassoFinderModel", name := "maskOf", desc := "(I)J" } : Jvm.MethodName)) ∈ lw_all := lw_g (lw_at lw_m10 0 rfl) rfl
theorem q2262 : (Jvm.Cond.instanceMethod ({ cls := "LassoFinderModel", name := "maskOf", desc := "(I)J" } : Jvm.MethodName)) ∈ lw_all := lw_g (lw_at lw_m10 2 rfl) rfl
theorem q2275 : (Jvm.Cond.code ({ cls := "LassoFinderModel", name := "meets", desc := "(II)Z" } : Jvm.MethodName) prog_22_method_31_code (4 : Nat) (Option.some Jvm.ClassFile.FieldType.boolean)) ∈ lw_all := lw_g (lw_at lw_m10 15 rfl) rfl
abbrev cX9_meets : ByteArray := prog_22_method_31_code
def yX9_meets : MethodName := ⟨RX9, "meets", "(II)Z"⟩
theorem dX9_meets_0 : decode cX9_meets 0 = .ok (.aload_n 0, 1) := by decide +kernel
theorem dX9_meets_1 : decode cX9_meets 1 = .ok (.getfield 69, 3) := by decide +kernel
theorem dX9_meets_4 : decode cX9_meets 4 = .ok (.iload_n 2, 1) := by decide +kernel
theorem dX9_meets_5 : decode cX9_meets 5 = .ok (.iaload, 1) := by decide +kernel
theorem dX9_meets_6 : decode cX9_meets 6 = .ok (.istore_n 3, 1) := by decide +kernel
theorem dX9_meets_7 : decode cX9_meets 7 = .ok (.aload_n 0, 1) := by decide +kernel
theorem dX9_meets_8 : decode cX9_meets 8 = .ok (.getfield 29, 3) := by decide +kernel
theorem dX9_meets_11 : decode cX9_meets 11 = .ok (.iload_n 3, 1) := by decide +kernel
theorem dX9_meets_12 : decode cX9_meets 12 = .ok (.iaload, 1) := by decide +kernel
theorem dX9_meets_13 : decode cX9_meets 13 = .ok (.iconst 3, 1) := by decide +kernel
theorem dX9_meets_14 : decode cX9_meets 14 = .ok (.if_icmp .ne 56, 3) := by decide +kernel
theorem dX9_meets_17 : decode cX9_meets 17 = .ok (.aload_n 0, 1) := by decide +kernel
theorem dX9_meets_18 : decode cX9_meets 18 = .ok (.getfield 51, 3) := by decide +kernel
theorem dX9_meets_21 : decode cX9_meets 21 = .ok (.iload_n 3, 1) := by decide +kernel
theorem dX9_meets_22 : decode cX9_meets 22 = .ok (.iaload, 1) := by decide +kernel
theorem dX9_meets_23 : decode cX9_meets 23 = .ok (.aload_n 0, 1) := by decide +kernel
theorem dX9_meets_24 : decode cX9_meets 24 = .ok (.getfield 51, 3) := by decide +kernel
theorem dX9_meets_27 : decode cX9_meets 27 = .ok (.iload_n 1, 1) := by decide +kernel
theorem dX9_meets_28 : decode cX9_meets 28 = .ok (.iaload, 1) := by decide +kernel
theorem dX9_meets_29 : decode cX9_meets 29 = .ok (.if_icmp .ne 41, 3) := by decide +kernel
theorem dX9_meets_32 : decode cX9_meets 32 = .ok (.aload_n 0, 1) := by decide +kernel
theorem dX9_meets_33 : decode cX9_meets 33 = .ok (.getfield 32, 3) := by decide +kernel
theorem dX9_meets_36 : decode cX9_meets 36 = .ok (.iload_n 3, 1) := by decide +kernel
theorem dX9_meets_37 : decode cX9_meets 37 = .ok (.iaload, 1) := by decide +kernel
theorem dX9_meets_38 : decode cX9_meets 38 = .ok (.aload_n 0, 1) := by decide +kernel
theorem dX9_meets_39 : decode cX9_meets 39 = .ok (.getfield 32, 3) := by decide +kernel
theorem dX9_meets_42 : decode cX9_meets 42 = .ok (.iload_n 1, 1) := by decide +kernel
theorem dX9_meets_43 : decode cX9_meets 43 = .ok (.iaload, 1) := by decide +kernel
theorem dX9_meets_44 : decode cX9_meets 44 = .ok (.if_icmp .eq 26, 3) := by decide +kernel
theorem dX9_meets_47 : decode cX9_meets 47 = .ok (.aload_n 0, 1) := by decide +kernel
theorem dX9_meets_48 : decode cX9_meets 48 = .ok (.aload_n 0, 1) := by decide +kernel
theorem dX9_meets_49 : decode cX9_meets 49 = .ok (.getfield 32, 3) := by decide +kernel
theorem dX9_meets_52 : decode cX9_meets 52 = .ok (.iload_n 3, 1) := by decide +kernel
theorem dX9_meets_53 : decode cX9_meets 53 = .ok (.iaload, 1) := by decide +kernel
theorem dX9_meets_54 : decode cX9_meets 54 = .ok (.invokevirtual 310, 3) := by decide +kernel
theorem dX9_meets_57 : decode cX9_meets 57 = .ok (.iload_n 2, 1) := by decide +kernel
theorem dX9_meets_58 : decode cX9_meets 58 = .ok (.lshr, 1) := by decide +kernel
theorem dX9_meets_59 : decode cX9_meets 59 = .ok (.lconst 1, 1) := by decide +kernel
theorem dX9_meets_60 : decode cX9_meets 60 = .ok (.land, 1) := by decide +kernel
theorem dX9_meets_61 : decode cX9_meets 61 = .ok (.lconst 1, 1) := by decide +kernel
theorem dX9_meets_62 : decode cX9_meets 62 = .ok (.lcmp, 1) := by decide +kernel
theorem dX9_meets_63 : decode cX9_meets 63 = .ok (.ifCond .ne 7, 3) := by decide +kernel
theorem dX9_meets_66 : decode cX9_meets 66 = .ok (.iconst 1, 1) := by decide +kernel
theorem dX9_meets_67 : decode cX9_meets 67 = .ok (.goto 4, 3) := by decide +kernel
theorem dX9_meets_70 : decode cX9_meets 70 = .ok (.iconst 0, 1) := by decide +kernel
theorem dX9_meets_71 : decode cX9_meets 71 = .ok (.ireturn, 1) := by decide +kernel
abbrev MX9_meets : zT := (yX9_meets, cX9_meets, 4, (Option.some Jvm.ClassFile.FieldType.boolean), [])
theorem plX9_meets : zplain MX9_meets 2 ∧ (zcodeW MX9_meets ∈ lw_all ∧ Cond.initialized MX9_meets.1.cls ∈ lw_all) := ⟨⟨by decide +kernel, by decide +kernel⟩, q2275, q127⟩
noncomputable def f_X9_meets_71 (t0 : Int) (σ : zM) : Option zO :=
  zgd (z01 t0) <|
  some (0, zi t0, σ)
theorem w_X9_meets_71 {g : zG} {lv : Nat} {out : zO} (t0 : Int) (σ : zM) {r : zO} (h : f_X9_meets_71 t0 σ = some r) (hk : (fun o : zO => o = out) r) : Gj g MX9_meets (lv + 1) 71 [] [zi t0] σ out := by
  revert h
  unfold f_X9_meets_71
  refine gb_gd (fun hb => ?_)
  intro h
  cases h
  have hk : (0, zi t0, σ) = out := hk
  subst hk
  exact gj_ret (pc := 71) (t := .boolean) dX9_meets_71 rfl ⟨rfl, rfl⟩ (fun _ => z01E hb)
noncomputable def f_X9_meets_70 (σ : zM) : Option zO :=
  f_X9_meets_71 0 σ
theorem w_X9_meets_70 {g : zG} {lv : Nat} {out : zO} (σ : zM) {r : zO} (h : f_X9_meets_70  σ = some r) (hk : (fun o : zO => o = out) r) : Gj g MX9_meets (lv + 1) 70 [] [] σ out := by
  revert h
  unfold f_X9_meets_70
  refine zst_ (gj_iconst (pc := 70) dX9_meets_70 (by decide)) ?_
  exact fun h => w_X9_meets_71 0 σ h hk
noncomputable def f_X9_meets (x0 x1 x2 : Int) (σ : zM) : Option zO :=
  (zgf σ 928 x0).bind fun v1 =>
  (zga σ 101 v1 x2).bind fun v2 =>
  (zgf σ 914 x0).bind fun v3 =>
  (zga σ 101 v3 v2).bind fun v4 =>
  if v4 ≠ 3 then
    f_X9_meets_70 σ
  else
    (zgf σ 921 x0).bind fun v5 =>
    (zga σ 101 v5 v2).bind fun v6 =>
    (zgf σ 921 x0).bind fun v7 =>
    (zga σ 101 v7 x1).bind fun v8 =>
    if v6 ≠ v8 then
      f_X9_meets_70 σ
    else
      (zgf σ 915 x0).bind fun v9 =>
      (zga σ 101 v9 v2).bind fun v10 =>
      (zgf σ 915 x0).bind fun v11 =>
      (zga σ 101 v11 x1).bind fun v12 =>
      if v10 = v12 then
        f_X9_meets_70 σ
      else
        (zgf σ 915 x0).bind fun v13 =>
        (zga σ 101 v13 v2).bind fun v14 =>
        zgd (zis σ 10 x0) <|
        zcj (f_X9_maskOf x0 v14 σ) fun v15 σ16 =>
        if (zlcmp (jand (jshr v15 x2) 1) 1) ≠ 0 then
          f_X9_meets_70 σ16
        else
          f_X9_meets_71 1 σ16
theorem c_X9_meets {g : zG} {lv : Nat} {x0 x1 x2 : Int} {σ : zM} {out : zO} (h : f_X9_meets x0 x1 x2 σ = some out) : Cj g (lv + 1) MX9_meets [zr x0, zi x1, zi x2] σ out := by
  refine cj_go (ls := [(0, zr x0), (1, zi x1), (2, zi x2)]) (by decide) (Nat.le_of_ble_eq_true rfl) rfl (zgen h (fun r hk => ?_))
  unfold f_X9_meets
  refine zst_ (gj_aload_n 0 (pc := 0) dX9_meets_0 rfl) ?_
  refine gb_get (pc := 1) fl928 dX9_meets_1 q1910 (Or.inl rfl) (fun v1 => ?_)
  refine zst_ (gj_iload_n 2 (pc := 4) dX9_meets_4 rfl) ?_
  refine gb_iald (pc := 5) dX9_meets_5 (fun v2 => ?_)
  refine zst_ (gj_istore_n (pc := 6) (ls' := [(3, zi v2), (0, zr x0), (1, zi x1), (2, zi x2)]) dX9_meets_6 (by decide) rfl) ?_
  refine zst_ (gj_aload_n 1 (pc := 7) dX9_meets_7 rfl) ?_
  refine gb_get (pc := 8) fl914 dX9_meets_8 q1896 (Or.inl rfl) (fun v3 => ?_)
  refine zst_ (gj_iload_n 0 (pc := 11) dX9_meets_11 rfl) ?_
  refine gb_iald (pc := 12) dX9_meets_12 (fun v4 => ?_)
  refine zst_ (gj_iconst (pc := 13) dX9_meets_13 (by decide)) ?_
  refine gb_if (gj_icmp_ne 70 (pc := 14) dX9_meets_14 (by decide)) ?_ ?_
  · refine zst_ (gj_sub [] rfl) ?_
    exact fun h => w_X9_meets_70 σ h hk
  · refine zst_ (gj_aload_n 1 (pc := 17) dX9_meets_17 rfl) ?_
    refine gb_get (pc := 18) fl921 dX9_meets_18 q1903 (Or.inl rfl) (fun v5 => ?_)
    refine zst_ (gj_iload_n 0 (pc := 21) dX9_meets_21 rfl) ?_
    refine gb_iald (pc := 22) dX9_meets_22 (fun v6 => ?_)
    refine zst_ (gj_aload_n 1 (pc := 23) dX9_meets_23 rfl) ?_
    refine gb_get (pc := 24) fl921 dX9_meets_24 q1903 (Or.inl rfl) (fun v7 => ?_)
    refine zst_ (gj_iload_n 2 (pc := 27) dX9_meets_27 rfl) ?_
    refine gb_iald (pc := 28) dX9_meets_28 (fun v8 => ?_)
    refine gb_if (gj_icmp_ne 70 (pc := 29) dX9_meets_29 (by decide)) ?_ ?_
    · refine zst_ (gj_sub [] rfl) ?_
      exact fun h => w_X9_meets_70 σ h hk
    · refine zst_ (gj_aload_n 1 (pc := 32) dX9_meets_32 rfl) ?_
      refine gb_get (pc := 33) fl915 dX9_meets_33 q1897 (Or.inl rfl) (fun v9 => ?_)
      refine zst_ (gj_iload_n 0 (pc := 36) dX9_meets_36 rfl) ?_
      refine gb_iald (pc := 37) dX9_meets_37 (fun v10 => ?_)
      refine zst_ (gj_aload_n 1 (pc := 38) dX9_meets_38 rfl) ?_
      refine gb_get (pc := 39) fl915 dX9_meets_39 q1897 (Or.inl rfl) (fun v11 => ?_)
      refine zst_ (gj_iload_n 2 (pc := 42) dX9_meets_42 rfl) ?_
      refine gb_iald (pc := 43) dX9_meets_43 (fun v12 => ?_)
      refine gb_if (gj_icmp_eq 70 (pc := 44) dX9_meets_44 (by decide)) ?_ ?_
      · refine zst_ (gj_sub [] rfl) ?_
        exact fun h => w_X9_meets_70 σ h hk
      · refine zst_ (gj_aload_n 1 (pc := 47) dX9_meets_47 rfl) ?_
        refine zst_ (gj_aload_n 1 (pc := 48) dX9_meets_48 rfl) ?_
        refine gb_get (pc := 49) fl915 dX9_meets_49 q1897 (Or.inl rfl) (fun v13 => ?_)
        refine zst_ (gj_iload_n 0 (pc := 52) dX9_meets_52 rfl) ?_
        refine gb_iald (pc := 53) dX9_meets_53 (fun v14 => ?_)
        refine gb_gd (fun hb => ?_)
        refine gb_callJ (pc := 54) (as := [zr x0, zi v14]) (rest := []) (zCl.of (zLk_V (M := MX9_meets) (ci := 9) (r := (RX9, TX9, 84)) plX9_maskOf.1 rfl rfl (zisE hb).1 (zisE hb).2 dX9_meets_54 q2260 q2262 qs71 q2263) plX9_maskOf (Nat.le_of_ble_eq_true rfl) (fun h => c_X9_maskOf h)) (fun v15 σ16 => ?_)
        refine zst_ (gj_iload_n 3 (pc := 57) dX9_meets_57 rfl) ?_
        refine zst_ (gj_lshr (pc := 58) dX9_meets_58) ?_
        refine zst_ (gj_lconst1 (pc := 59) dX9_meets_59) ?_
        refine zst_ (gj_land (pc := 60) dX9_meets_60) ?_
        refine zst_ (gj_lconst1 (pc := 61) dX9_meets_61) ?_
        refine zst_ (gj_lcmp (pc := 62) dX9_meets_62) ?_
        refine gb_if (gj_if_ne 70 (pc := 63) dX9_meets_63 (by decide)) ?_ ?_
        · refine zst_ (gj_sub [] rfl) ?_
          exact fun h => w_X9_meets_70 σ16 h hk
        · refine zst_ (gj_iconst (pc := 66) dX9_meets_66 (by decide)) ?_
          refine zst_ (gj_goto 71 (pc := 67) dX9_meets_67 (by decide)) ?_
          refine zst_ (gj_sub [] rfl) ?_
          exact fun h => w_X9_meets_71 1 σ16 h hk
theorem q2267 : (Jvm.Cond.code ({ cls := "LassoFinderModel", name := "can", desc := "(I)Z" } : Jvm.MethodName) prog_22_method_32_code (4 : Nat) (Option.some Jvm.ClassFile.FieldType.boolean)) ∈ lw_all := lw_g (lw_at lw_m10 7 rfl) rfl
theorem q2268 : (Jvm.Cond.methodLink "LassoFinderModel" (314 : Nat) ({ cls := "LassoFinderModel", name := "worth", desc := "(II)I" } : Jvm.MethodName)) ∈ lw_all := lw_g (lw_at lw_m10 8 rfl) rfl
theorem q2270 : (Jvm.Cond.instanceMethod ({ cls := "LassoFinderModel", name := "worth", desc := "(II)I" } : Jvm.MethodName)) ∈ lw_all := lw_g (lw_at lw_m10 10 rfl) rfl
theorem q2272 : (Jvm.Cond.methodLink "LassoFinderModel" (317 : Nat) ({ cls := "LassoFinderModel", name := "meets", desc := "(II)Z" } : Jvm.MethodName)) ∈ lw_all := lw_g (lw_at lw_m10 12 rfl) rfl
theorem q2274 : (Jvm.Cond.instanceMethod ({ cls := "LassoFinderModel", name := "meets", desc := "(II)Z" } : Jvm.MethodName)) ∈ lw_all := lw_g (lw_at lw_m10 14 rfl) rfl
abbrev cX9_can : ByteArray := prog_22_method_32_code
def yX9_can : MethodName := ⟨RX9, "can", "(I)Z"⟩
theorem dX9_can_0 : decode cX9_can 0 = .ok (.aload_n 0, 1) := by decide +kernel
theorem dX9_can_1 : decode cX9_can 1 = .ok (.getfield 29, 3) := by decide +kernel
theorem dX9_can_4 : decode cX9_can 4 = .ok (.iload_n 1, 1) := by decide +kernel
theorem dX9_can_5 : decode cX9_can 5 = .ok (.iaload, 1) := by decide +kernel
theorem dX9_can_6 : decode cX9_can 6 = .ok (.iconst 1, 1) := by decide +kernel
theorem dX9_can_7 : decode cX9_can 7 = .ok (.if_icmp .ne 28, 3) := by decide +kernel
theorem dX9_can_10 : decode cX9_can 10 = .ok (.aload_n 0, 1) := by decide +kernel
theorem dX9_can_11 : decode cX9_can 11 = .ok (.aload_n 0, 1) := by decide +kernel
theorem dX9_can_12 : decode cX9_can 12 = .ok (.getfield 57, 3) := by decide +kernel
theorem dX9_can_15 : decode cX9_can 15 = .ok (.iload_n 1, 1) := by decide +kernel
theorem dX9_can_16 : decode cX9_can 16 = .ok (.iaload, 1) := by decide +kernel
theorem dX9_can_17 : decode cX9_can 17 = .ok (.aload_n 0, 1) := by decide +kernel
theorem dX9_can_18 : decode cX9_can 18 = .ok (.getfield 60, 3) := by decide +kernel
theorem dX9_can_21 : decode cX9_can 21 = .ok (.iload_n 1, 1) := by decide +kernel
theorem dX9_can_22 : decode cX9_can 22 = .ok (.iaload, 1) := by decide +kernel
theorem dX9_can_23 : decode cX9_can 23 = .ok (.invokevirtual 314, 3) := by decide +kernel
theorem dX9_can_26 : decode cX9_can 26 = .ok (.ifCond .eq 7, 3) := by decide +kernel
theorem dX9_can_29 : decode cX9_can 29 = .ok (.iconst 1, 1) := by decide +kernel
theorem dX9_can_30 : decode cX9_can 30 = .ok (.goto 4, 3) := by decide +kernel
theorem dX9_can_33 : decode cX9_can 33 = .ok (.iconst 0, 1) := by decide +kernel
theorem dX9_can_34 : decode cX9_can 34 = .ok (.ireturn, 1) := by decide +kernel
theorem dX9_can_35 : decode cX9_can 35 = .ok (.aload_n 0, 1) := by decide +kernel
theorem dX9_can_36 : decode cX9_can 36 = .ok (.getfield 29, 3) := by decide +kernel
theorem dX9_can_39 : decode cX9_can 39 = .ok (.iload_n 1, 1) := by decide +kernel
theorem dX9_can_40 : decode cX9_can 40 = .ok (.iaload, 1) := by decide +kernel
theorem dX9_can_41 : decode cX9_can 41 = .ok (.iconst 3, 1) := by decide +kernel
theorem dX9_can_42 : decode cX9_can 42 = .ok (.if_icmp .ne 23, 3) := by decide +kernel
theorem dX9_can_45 : decode cX9_can 45 = .ok (.aload_n 0, 1) := by decide +kernel
theorem dX9_can_46 : decode cX9_can 46 = .ok (.getfield 133, 3) := by decide +kernel
theorem dX9_can_49 : decode cX9_can 49 = .ok (.aload_n 0, 1) := by decide +kernel
theorem dX9_can_50 : decode cX9_can 50 = .ok (.getfield 51, 3) := by decide +kernel
theorem dX9_can_53 : decode cX9_can 53 = .ok (.iload_n 1, 1) := by decide +kernel
theorem dX9_can_54 : decode cX9_can 54 = .ok (.iaload, 1) := by decide +kernel
theorem dX9_can_55 : decode cX9_can 55 = .ok (.iaload, 1) := by decide +kernel
theorem dX9_can_56 : decode cX9_can 56 = .ok (.ifCond .le 7, 3) := by decide +kernel
theorem dX9_can_59 : decode cX9_can 59 = .ok (.iconst 1, 1) := by decide +kernel
theorem dX9_can_60 : decode cX9_can 60 = .ok (.goto 4, 3) := by decide +kernel
theorem dX9_can_63 : decode cX9_can 63 = .ok (.iconst 0, 1) := by decide +kernel
theorem dX9_can_64 : decode cX9_can 64 = .ok (.ireturn, 1) := by decide +kernel
theorem dX9_can_65 : decode cX9_can 65 = .ok (.aload_n 0, 1) := by decide +kernel
theorem dX9_can_66 : decode cX9_can 66 = .ok (.getfield 29, 3) := by decide +kernel
theorem dX9_can_69 : decode cX9_can 69 = .ok (.iload_n 1, 1) := by decide +kernel
theorem dX9_can_70 : decode cX9_can 70 = .ok (.iaload, 1) := by decide +kernel
theorem dX9_can_71 : decode cX9_can 71 = .ok (.iconst 2, 1) := by decide +kernel
theorem dX9_can_72 : decode cX9_can 72 = .ok (.if_icmp .eq 19, 3) := by decide +kernel
theorem dX9_can_75 : decode cX9_can 75 = .ok (.aload_n 0, 1) := by decide +kernel
theorem dX9_can_76 : decode cX9_can 76 = .ok (.getfield 29, 3) := by decide +kernel
theorem dX9_can_79 : decode cX9_can 79 = .ok (.iload_n 1, 1) := by decide +kernel
theorem dX9_can_80 : decode cX9_can 80 = .ok (.iaload, 1) := by decide +kernel
theorem dX9_can_81 : decode cX9_can 81 = .ok (.iconst 5, 1) := by decide +kernel
theorem dX9_can_82 : decode cX9_can 82 = .ok (.if_icmp .eq 7, 3) := by decide +kernel
theorem dX9_can_85 : decode cX9_can 85 = .ok (.iconst 1, 1) := by decide +kernel
theorem dX9_can_86 : decode cX9_can 86 = .ok (.goto 4, 3) := by decide +kernel
theorem dX9_can_89 : decode cX9_can 89 = .ok (.iconst 0, 1) := by decide +kernel
theorem dX9_can_90 : decode cX9_can 90 = .ok (.ireturn, 1) := by decide +kernel
theorem dX9_can_91 : decode cX9_can 91 = .ok (.aload_n 0, 1) := by decide +kernel
theorem dX9_can_92 : decode cX9_can 92 = .ok (.getfield 26, 3) := by decide +kernel
theorem dX9_can_95 : decode cX9_can 95 = .ok (.aload_n 0, 1) := by decide +kernel
theorem dX9_can_96 : decode cX9_can 96 = .ok (.getfield 51, 3) := by decide +kernel
theorem dX9_can_99 : decode cX9_can 99 = .ok (.iload_n 1, 1) := by decide +kernel
theorem dX9_can_100 : decode cX9_can 100 = .ok (.iaload, 1) := by decide +kernel
theorem dX9_can_101 : decode cX9_can 101 = .ok (.iaload, 1) := by decide +kernel
theorem dX9_can_102 : decode cX9_can 102 = .ok (.ifCond .le 34, 3) := by decide +kernel
theorem dX9_can_105 : decode cX9_can 105 = .ok (.aload_n 0, 1) := by decide +kernel
theorem dX9_can_106 : decode cX9_can 106 = .ok (.getfield 133, 3) := by decide +kernel
theorem dX9_can_109 : decode cX9_can 109 = .ok (.aload_n 0, 1) := by decide +kernel
theorem dX9_can_110 : decode cX9_can 110 = .ok (.getfield 51, 3) := by decide +kernel
theorem dX9_can_113 : decode cX9_can 113 = .ok (.iload_n 1, 1) := by decide +kernel
theorem dX9_can_114 : decode cX9_can 114 = .ok (.iaload, 1) := by decide +kernel
theorem dX9_can_115 : decode cX9_can 115 = .ok (.iaload, 1) := by decide +kernel
theorem dX9_can_116 : decode cX9_can 116 = .ok (.aload_n 0, 1) := by decide +kernel
theorem dX9_can_117 : decode cX9_can 117 = .ok (.getfield 26, 3) := by decide +kernel
theorem dX9_can_120 : decode cX9_can 120 = .ok (.aload_n 0, 1) := by decide +kernel
theorem dX9_can_121 : decode cX9_can 121 = .ok (.getfield 51, 3) := by decide +kernel
theorem dX9_can_124 : decode cX9_can 124 = .ok (.iload_n 1, 1) := by decide +kernel
theorem dX9_can_125 : decode cX9_can 125 = .ok (.iaload, 1) := by decide +kernel
theorem dX9_can_126 : decode cX9_can 126 = .ok (.iaload, 1) := by decide +kernel
theorem dX9_can_127 : decode cX9_can 127 = .ok (.if_icmp .ge 7, 3) := by decide +kernel
theorem dX9_can_130 : decode cX9_can 130 = .ok (.iconst 1, 1) := by decide +kernel
theorem dX9_can_131 : decode cX9_can 131 = .ok (.goto 4, 3) := by decide +kernel
theorem dX9_can_134 : decode cX9_can 134 = .ok (.iconst 0, 1) := by decide +kernel
theorem dX9_can_135 : decode cX9_can 135 = .ok (.ireturn, 1) := by decide +kernel
theorem dX9_can_136 : decode cX9_can 136 = .ok (.iconst 0, 1) := by decide +kernel
theorem dX9_can_137 : decode cX9_can 137 = .ok (.istore_n 2, 1) := by decide +kernel
theorem dX9_can_138 : decode cX9_can 138 = .ok (.iconst 0, 1) := by decide +kernel
theorem dX9_can_139 : decode cX9_can 139 = .ok (.istore_n 3, 1) := by decide +kernel
theorem dX9_can_140 : decode cX9_can 140 = .ok (.iload_n 3, 1) := by decide +kernel
theorem dX9_can_141 : decode cX9_can 141 = .ok (.aload_n 0, 1) := by decide +kernel
theorem dX9_can_142 : decode cX9_can 142 = .ok (.getfield 257, 3) := by decide +kernel
theorem dX9_can_145 : decode cX9_can 145 = .ok (.if_icmp .ge 28, 3) := by decide +kernel
theorem dX9_can_148 : decode cX9_can 148 = .ok (.iload_n 2, 1) := by decide +kernel
theorem dX9_can_149 : decode cX9_can 149 = .ok (.ifCond .ne 12, 3) := by decide +kernel
theorem dX9_can_152 : decode cX9_can 152 = .ok (.aload_n 0, 1) := by decide +kernel
theorem dX9_can_153 : decode cX9_can 153 = .ok (.iload_n 1, 1) := by decide +kernel
theorem dX9_can_154 : decode cX9_can 154 = .ok (.iload_n 3, 1) := by decide +kernel
theorem dX9_can_155 : decode cX9_can 155 = .ok (.invokevirtual 317, 3) := by decide +kernel
theorem dX9_can_158 : decode cX9_can 158 = .ok (.ifCond .eq 7, 3) := by decide +kernel
theorem dX9_can_161 : decode cX9_can 161 = .ok (.iconst 1, 1) := by decide +kernel
theorem dX9_can_162 : decode cX9_can 162 = .ok (.goto 4, 3) := by decide +kernel
theorem dX9_can_165 : decode cX9_can 165 = .ok (.iconst 0, 1) := by decide +kernel
theorem dX9_can_166 : decode cX9_can 166 = .ok (.istore_n 2, 1) := by decide +kernel
theorem dX9_can_167 : decode cX9_can 167 = .ok (.iinc 3 1, 3) := by decide +kernel
theorem dX9_can_170 : decode cX9_can 170 = .ok (.goto (-30), 3) := by decide +kernel
theorem dX9_can_173 : decode cX9_can 173 = .ok (.iload_n 2, 1) := by decide +kernel
theorem dX9_can_174 : decode cX9_can 174 = .ok (.ireturn, 1) := by decide +kernel
abbrev MX9_can : zT := (yX9_can, cX9_can, 4, (Option.some Jvm.ClassFile.FieldType.boolean), [])
theorem plX9_can : zplain MX9_can 1 ∧ (zcodeW MX9_can ∈ lw_all ∧ Cond.initialized MX9_can.1.cls ∈ lw_all) := ⟨⟨by decide +kernel, by decide +kernel⟩, q2267, q127⟩
noncomputable def f_X9_can_173 (x2 : Int) (σ : zM) : Option zO :=
  zgd (z01 x2) <|
  some (0, zi x2, σ)
theorem w_X9_can_173 {g : zG} {lv : Nat} {out : zO} (x2 : Int) (σ : zM) {r : zO} (h : f_X9_can_173 x2 σ = some r) (hk : (fun o : zO => o = out) r) : Gj g MX9_can (lv + 2) 173 [(2, zi x2)] [] σ out := by
  revert h
  unfold f_X9_can_173
  refine zst_ (gj_iload_n 0 (pc := 173) dX9_can_173 rfl) ?_
  refine gb_gd (fun hb => ?_)
  intro h
  cases h
  have hk : (0, zi x2, σ) = out := hk
  subst hk
  exact gj_ret (pc := 174) (t := .boolean) dX9_can_174 rfl ⟨rfl, rfl⟩ (fun _ => z01E hb)
noncomputable def f_X9_can_166 (x0 x1 x3 t0 : Int) (σ : zM) : Option ((Int × Int × zM) ⊕ zO) :=
  zlet (zadd x3 1) fun y1 =>
  some (.inl (t0, y1, σ))
theorem w_X9_can_166 {g : zG} {lv : Nat} {out : zO} (x0 x1 x3 t0 : Int) (σ : zM) {r : ((Int × Int × zM) ⊕ zO)} (h : f_X9_can_166 x0 x1 x3 t0 σ = some r) (hk : (zKL (fun s : Int × Int × zM => Gj g MX9_can (lv + 2) 140 [(0, zr x0), (1, zi x1), (2, zi s.1), (3, zi s.2.1)] [] s.2.2 out) (fun o : zO => o = out)) r) : Gj g MX9_can (lv + 2) 166 [(0, zr x0), (1, zi x1), (3, zi x3)] [zi t0] σ out := by
  revert h
  unfold f_X9_can_166
  refine zst_ (gj_istore_n (pc := 166) (ls' := [(2, zi t0), (0, zr x0), (1, zi x1), (3, zi x3)]) dX9_can_166 (by decide) rfl) ?_
  refine gb_iinc (pc := 167) 3 (fun y1 => [(3, zi y1), (2, zi t0), (0, zr x0), (1, zi x1)]) dX9_can_167 rfl (by decide) (fun _ => rfl) (fun y1 => ?_)
  refine zst_ (gj_goto 140 (pc := 170) dX9_can_170 (by decide)) ?_
  refine zst_ (gj_sub [2, 3, 1, 0] rfl) ?_
  intro h
  cases h
  exact hk
noncomputable def f_X9_can_161 (x0 x1 x3 : Int) (σ : zM) : Option ((Int × Int × zM) ⊕ zO) :=
  f_X9_can_166 x0 x1 x3 1 σ
theorem w_X9_can_161 {g : zG} {lv : Nat} {out : zO} (x0 x1 x3 : Int) (σ : zM) {r : ((Int × Int × zM) ⊕ zO)} (h : f_X9_can_161 x0 x1 x3 σ = some r) (hk : (zKL (fun s : Int × Int × zM => Gj g MX9_can (lv + 2) 140 [(0, zr x0), (1, zi x1), (2, zi s.1), (3, zi s.2.1)] [] s.2.2 out) (fun o : zO => o = out)) r) : Gj g MX9_can (lv + 2) 161 [(0, zr x0), (1, zi x1), (3, zi x3)] [] σ out := by
  revert h
  unfold f_X9_can_161
  refine zst_ (gj_iconst (pc := 161) dX9_can_161 (by decide)) ?_
  refine zst_ (gj_goto 166 (pc := 162) dX9_can_162 (by decide)) ?_
  exact fun h => w_X9_can_166 x0 x1 x3 1 σ h hk
noncomputable def f_X9_can_140_b (x0 x1 x2 x3 : Int) (σ : zM) : Option ((Int × Int × zM) ⊕ zO) :=
  (zgf σ 927 x0).bind fun v1 =>
  if v1 ≤ x3 then
    (f_X9_can_173 x2 σ).map (fun r => (.inr r))
  else
    if x2 ≠ 0 then
      f_X9_can_161 x0 x1 x3 σ
    else
      zgd (zis σ 10 x0) <|
      zci (f_X9_meets x0 x1 x3 σ) fun v2 σ3 =>
      if v2 = 0 then
        f_X9_can_166 x0 x1 x3 0 σ3
      else
        f_X9_can_161 x0 x1 x3 σ3
noncomputable def f_X9_can_140 (x0 x1 x2 x3 : Int) (σ : zM) : Option zO :=
  zloop (fun s : Int × Int × zM => f_X9_can_140_b x0 x1 s.1 s.2.1 s.2.2) (x2, x3, σ)
theorem w_X9_can_140_b {g : zG} {lv : Nat} {out : zO} (x0 x1 x2 x3 : Int) (σ : zM) {r : ((Int × Int × zM) ⊕ zO)} (h : f_X9_can_140_b x0 x1 x2 x3 σ = some r) (hk : (zKL (fun s : Int × Int × zM => Gj g MX9_can (lv + 2) 140 [(0, zr x0), (1, zi x1), (2, zi s.1), (3, zi s.2.1)] [] s.2.2 out) (fun o : zO => o = out)) r) : Gj g MX9_can (lv + 2) 140 [(0, zr x0), (1, zi x1), (2, zi x2), (3, zi x3)] [] σ out := by
  revert h
  unfold f_X9_can_140_b
  refine zst_ (gj_iload_n 3 (pc := 140) dX9_can_140 rfl) ?_
  refine zst_ (gj_aload_n 0 (pc := 141) dX9_can_141 rfl) ?_
  refine gb_get (pc := 142) fl927 dX9_can_142 q1909 (Or.inl rfl) (fun v1 => ?_)
  refine gb_if (gj_icmp_ge 173 (pc := 145) dX9_can_145 (by decide)) ?_ ?_
  · refine zst_ (gj_sub [2] rfl) ?_
    intro h
    obtain ⟨r0, h0, rfl⟩ := zmE h
    exact w_X9_can_173 x2 σ h0 hk
  · refine zst_ (gj_iload_n 2 (pc := 148) dX9_can_148 rfl) ?_
    refine gb_if (gj_if_ne 161 (pc := 149) dX9_can_149 (by decide)) ?_ ?_
    · refine zst_ (gj_sub [0, 1, 3] rfl) ?_
      exact fun h => w_X9_can_161 x0 x1 x3 σ h hk
    · refine zst_ (gj_aload_n 0 (pc := 152) dX9_can_152 rfl) ?_
      refine zst_ (gj_iload_n 1 (pc := 153) dX9_can_153 rfl) ?_
      refine zst_ (gj_iload_n 3 (pc := 154) dX9_can_154 rfl) ?_
      refine gb_gd (fun hb => ?_)
      refine gb_callI (pc := 155) (as := [zr x0, zi x1, zi x3]) (rest := []) (zCl.of (zLk_V (M := MX9_can) (ci := 9) (r := (RX9, TX9, 84)) plX9_meets.1 rfl rfl (zisE hb).1 (zisE hb).2 dX9_can_155 q2272 q2274 qs74 q2275) plX9_meets (Nat.le_of_ble_eq_true rfl) (fun h => c_X9_meets h)) (fun v2 σ3 => ?_)
      refine gb_if (gj_if_eq 165 (pc := 158) dX9_can_158 (by decide)) ?_ ?_
      · refine zst_ (gj_iconst (pc := 165) dX9_can_165 (by decide)) ?_
        refine zst_ (gj_sub [0, 1, 3] rfl) ?_
        exact fun h => w_X9_can_166 x0 x1 x3 0 σ3 h hk
      · refine zst_ (gj_sub [0, 1, 3] rfl) ?_
        exact fun h => w_X9_can_161 x0 x1 x3 σ3 h hk
theorem w_X9_can_140 {g : zG} {lv : Nat} {out : zO} (x0 x1 x2 x3 : Int) (σ : zM) {r : zO} (h : f_X9_can_140 x0 x1 x2 x3 σ = some r) (hk : (fun o : zO => o = out) r) : Gj g MX9_can (lv + 2) 140 [(0, zr x0), (1, zi x1), (2, zi x2), (3, zi x3)] [] σ out :=
  gj_loop (P := (fun s : Int × Int × zM => Gj g MX9_can (lv + 2) 140 [(0, zr x0), (1, zi x1), (2, zi s.1), (3, zi s.2.1)] [] s.2.2 out)) (fun s x hb hx => w_X9_can_140_b x0 x1 s.1 s.2.1 s.2.2 hb hx) h hk
noncomputable def f_X9_can_135 (t0 : Int) (σ : zM) : Option zO :=
  zgd (z01 t0) <|
  some (0, zi t0, σ)
theorem w_X9_can_135 {g : zG} {lv : Nat} {out : zO} (t0 : Int) (σ : zM) {r : zO} (h : f_X9_can_135 t0 σ = some r) (hk : (fun o : zO => o = out) r) : Gj g MX9_can (lv + 2) 135 [] [zi t0] σ out := by
  revert h
  unfold f_X9_can_135
  refine gb_gd (fun hb => ?_)
  intro h
  cases h
  have hk : (0, zi t0, σ) = out := hk
  subst hk
  exact gj_ret (pc := 135) (t := .boolean) dX9_can_135 rfl ⟨rfl, rfl⟩ (fun _ => z01E hb)
noncomputable def f_X9_can_90 (t0 : Int) (σ : zM) : Option zO :=
  zgd (z01 t0) <|
  some (0, zi t0, σ)
theorem w_X9_can_90 {g : zG} {lv : Nat} {out : zO} (t0 : Int) (σ : zM) {r : zO} (h : f_X9_can_90 t0 σ = some r) (hk : (fun o : zO => o = out) r) : Gj g MX9_can (lv + 2) 90 [] [zi t0] σ out := by
  revert h
  unfold f_X9_can_90
  refine gb_gd (fun hb => ?_)
  intro h
  cases h
  have hk : (0, zi t0, σ) = out := hk
  subst hk
  exact gj_ret (pc := 90) (t := .boolean) dX9_can_90 rfl ⟨rfl, rfl⟩ (fun _ => z01E hb)
noncomputable def f_X9_can_64 (t0 : Int) (σ : zM) : Option zO :=
  zgd (z01 t0) <|
  some (0, zi t0, σ)
theorem w_X9_can_64 {g : zG} {lv : Nat} {out : zO} (t0 : Int) (σ : zM) {r : zO} (h : f_X9_can_64 t0 σ = some r) (hk : (fun o : zO => o = out) r) : Gj g MX9_can (lv + 2) 64 [] [zi t0] σ out := by
  revert h
  unfold f_X9_can_64
  refine gb_gd (fun hb => ?_)
  intro h
  cases h
  have hk : (0, zi t0, σ) = out := hk
  subst hk
  exact gj_ret (pc := 64) (t := .boolean) dX9_can_64 rfl ⟨rfl, rfl⟩ (fun _ => z01E hb)
noncomputable def f_X9_can_34 (t0 : Int) (σ : zM) : Option zO :=
  zgd (z01 t0) <|
  some (0, zi t0, σ)
theorem w_X9_can_34 {g : zG} {lv : Nat} {out : zO} (t0 : Int) (σ : zM) {r : zO} (h : f_X9_can_34 t0 σ = some r) (hk : (fun o : zO => o = out) r) : Gj g MX9_can (lv + 2) 34 [] [zi t0] σ out := by
  revert h
  unfold f_X9_can_34
  refine gb_gd (fun hb => ?_)
  intro h
  cases h
  have hk : (0, zi t0, σ) = out := hk
  subst hk
  exact gj_ret (pc := 34) (t := .boolean) dX9_can_34 rfl ⟨rfl, rfl⟩ (fun _ => z01E hb)
noncomputable def f_X9_can (x0 x1 : Int) (σ : zM) : Option zO :=
  (zgf σ 914 x0).bind fun v1 =>
  (zga σ 101 v1 x1).bind fun v2 =>
  if v2 ≠ 1 then
    (zgf σ 914 x0).bind fun v3 =>
    (zga σ 101 v3 x1).bind fun v4 =>
    if v4 ≠ 3 then
      (zgf σ 914 x0).bind fun v5 =>
      (zga σ 101 v5 x1).bind fun v6 =>
      if v6 = 2 then
        (zgf σ 912 x0).bind fun v7 =>
        (zgf σ 921 x0).bind fun v8 =>
        (zga σ 101 v8 x1).bind fun v9 =>
        (zga σ 101 v7 v9).bind fun v10 =>
        if v10 ≤ 0 then
          f_X9_can_140 x0 x1 0 0 σ
        else
          (zgf σ 956 x0).bind fun v11 =>
          (zgf σ 921 x0).bind fun v12 =>
          (zga σ 101 v12 x1).bind fun v13 =>
          (zga σ 101 v11 v13).bind fun v14 =>
          (zgf σ 912 x0).bind fun v15 =>
          (zgf σ 921 x0).bind fun v16 =>
          (zga σ 101 v16 x1).bind fun v17 =>
          (zga σ 101 v15 v17).bind fun v18 =>
          if v18 ≤ v14 then
            f_X9_can_135 0 σ
          else
            f_X9_can_135 1 σ
      else
        (zgf σ 914 x0).bind fun v19 =>
        (zga σ 101 v19 x1).bind fun v20 =>
        if v20 = 5 then
          f_X9_can_90 0 σ
        else
          f_X9_can_90 1 σ
    else
      (zgf σ 956 x0).bind fun v21 =>
      (zgf σ 921 x0).bind fun v22 =>
      (zga σ 101 v22 x1).bind fun v23 =>
      (zga σ 101 v21 v23).bind fun v24 =>
      if v24 ≤ 0 then
        f_X9_can_64 0 σ
      else
        f_X9_can_64 1 σ
  else
    (zgf σ 923 x0).bind fun v25 =>
    (zga σ 101 v25 x1).bind fun v26 =>
    (zgf σ 924 x0).bind fun v27 =>
    (zga σ 101 v27 x1).bind fun v28 =>
    zgd (zis σ 10 x0) <|
    zci (f_X9_worth x0 v26 v28 σ) fun v29 σ30 =>
    if v29 = 0 then
      f_X9_can_34 0 σ30
    else
      f_X9_can_34 1 σ30
theorem c_X9_can {g : zG} {lv : Nat} {x0 x1 : Int} {σ : zM} {out : zO} (h : f_X9_can x0 x1 σ = some out) : Cj g (lv + 2) MX9_can [zr x0, zi x1] σ out := by
  refine cj_go (ls := [(0, zr x0), (1, zi x1)]) (by decide) (Nat.le_of_ble_eq_true rfl) rfl (zgen h (fun r hk => ?_))
  unfold f_X9_can
  refine zst_ (gj_aload_n 0 (pc := 0) dX9_can_0 rfl) ?_
  refine gb_get (pc := 1) fl914 dX9_can_1 q1896 (Or.inl rfl) (fun v1 => ?_)
  refine zst_ (gj_iload_n 1 (pc := 4) dX9_can_4 rfl) ?_
  refine gb_iald (pc := 5) dX9_can_5 (fun v2 => ?_)
  refine zst_ (gj_iconst (pc := 6) dX9_can_6 (by decide)) ?_
  refine gb_if (gj_icmp_ne 35 (pc := 7) dX9_can_7 (by decide)) ?_ ?_
  · refine zst_ (gj_aload_n 0 (pc := 35) dX9_can_35 rfl) ?_
    refine gb_get (pc := 36) fl914 dX9_can_36 q1896 (Or.inl rfl) (fun v3 => ?_)
    refine zst_ (gj_iload_n 1 (pc := 39) dX9_can_39 rfl) ?_
    refine gb_iald (pc := 40) dX9_can_40 (fun v4 => ?_)
    refine zst_ (gj_iconst (pc := 41) dX9_can_41 (by decide)) ?_
    refine gb_if (gj_icmp_ne 65 (pc := 42) dX9_can_42 (by decide)) ?_ ?_
    · refine zst_ (gj_aload_n 0 (pc := 65) dX9_can_65 rfl) ?_
      refine gb_get (pc := 66) fl914 dX9_can_66 q1896 (Or.inl rfl) (fun v5 => ?_)
      refine zst_ (gj_iload_n 1 (pc := 69) dX9_can_69 rfl) ?_
      refine gb_iald (pc := 70) dX9_can_70 (fun v6 => ?_)
      refine zst_ (gj_iconst (pc := 71) dX9_can_71 (by decide)) ?_
      refine gb_if (gj_icmp_eq 91 (pc := 72) dX9_can_72 (by decide)) ?_ ?_
      · refine zst_ (gj_aload_n 0 (pc := 91) dX9_can_91 rfl) ?_
        refine gb_get (pc := 92) fl912 dX9_can_92 q1894 (Or.inl rfl) (fun v7 => ?_)
        refine zst_ (gj_aload_n 0 (pc := 95) dX9_can_95 rfl) ?_
        refine gb_get (pc := 96) fl921 dX9_can_96 q1903 (Or.inl rfl) (fun v8 => ?_)
        refine zst_ (gj_iload_n 1 (pc := 99) dX9_can_99 rfl) ?_
        refine gb_iald (pc := 100) dX9_can_100 (fun v9 => ?_)
        refine gb_iald (pc := 101) dX9_can_101 (fun v10 => ?_)
        refine gb_if (gj_if_le 136 (pc := 102) dX9_can_102 (by decide)) ?_ ?_
        · refine zst_ (gj_iconst (pc := 136) dX9_can_136 (by decide)) ?_
          refine zst_ (gj_istore_n (pc := 137) (ls' := [(2, zi 0), (0, zr x0), (1, zi x1)]) dX9_can_137 (by decide) rfl) ?_
          refine zst_ (gj_iconst (pc := 138) dX9_can_138 (by decide)) ?_
          refine zst_ (gj_istore_n (pc := 139) (ls' := [(3, zi 0), (2, zi 0), (0, zr x0), (1, zi x1)]) dX9_can_139 (by decide) rfl) ?_
          refine zst_ (gj_sub [2, 3, 1, 0] rfl) ?_
          exact fun h => w_X9_can_140 x0 x1 0 0 σ h hk
        · refine zst_ (gj_aload_n 0 (pc := 105) dX9_can_105 rfl) ?_
          refine gb_get (pc := 106) fl956 dX9_can_106 q1938 (Or.inl rfl) (fun v11 => ?_)
          refine zst_ (gj_aload_n 0 (pc := 109) dX9_can_109 rfl) ?_
          refine gb_get (pc := 110) fl921 dX9_can_110 q1903 (Or.inl rfl) (fun v12 => ?_)
          refine zst_ (gj_iload_n 1 (pc := 113) dX9_can_113 rfl) ?_
          refine gb_iald (pc := 114) dX9_can_114 (fun v13 => ?_)
          refine gb_iald (pc := 115) dX9_can_115 (fun v14 => ?_)
          refine zst_ (gj_aload_n 0 (pc := 116) dX9_can_116 rfl) ?_
          refine gb_get (pc := 117) fl912 dX9_can_117 q1894 (Or.inl rfl) (fun v15 => ?_)
          refine zst_ (gj_aload_n 0 (pc := 120) dX9_can_120 rfl) ?_
          refine gb_get (pc := 121) fl921 dX9_can_121 q1903 (Or.inl rfl) (fun v16 => ?_)
          refine zst_ (gj_iload_n 1 (pc := 124) dX9_can_124 rfl) ?_
          refine gb_iald (pc := 125) dX9_can_125 (fun v17 => ?_)
          refine gb_iald (pc := 126) dX9_can_126 (fun v18 => ?_)
          refine gb_if (gj_icmp_ge 134 (pc := 127) dX9_can_127 (by decide)) ?_ ?_
          · refine zst_ (gj_iconst (pc := 134) dX9_can_134 (by decide)) ?_
            refine zst_ (gj_sub [] rfl) ?_
            exact fun h => w_X9_can_135 0 σ h hk
          · refine zst_ (gj_iconst (pc := 130) dX9_can_130 (by decide)) ?_
            refine zst_ (gj_goto 135 (pc := 131) dX9_can_131 (by decide)) ?_
            refine zst_ (gj_sub [] rfl) ?_
            exact fun h => w_X9_can_135 1 σ h hk
      · refine zst_ (gj_aload_n 0 (pc := 75) dX9_can_75 rfl) ?_
        refine gb_get (pc := 76) fl914 dX9_can_76 q1896 (Or.inl rfl) (fun v19 => ?_)
        refine zst_ (gj_iload_n 1 (pc := 79) dX9_can_79 rfl) ?_
        refine gb_iald (pc := 80) dX9_can_80 (fun v20 => ?_)
        refine zst_ (gj_iconst (pc := 81) dX9_can_81 (by decide)) ?_
        refine gb_if (gj_icmp_eq 89 (pc := 82) dX9_can_82 (by decide)) ?_ ?_
        · refine zst_ (gj_iconst (pc := 89) dX9_can_89 (by decide)) ?_
          refine zst_ (gj_sub [] rfl) ?_
          exact fun h => w_X9_can_90 0 σ h hk
        · refine zst_ (gj_iconst (pc := 85) dX9_can_85 (by decide)) ?_
          refine zst_ (gj_goto 90 (pc := 86) dX9_can_86 (by decide)) ?_
          refine zst_ (gj_sub [] rfl) ?_
          exact fun h => w_X9_can_90 1 σ h hk
    · refine zst_ (gj_aload_n 0 (pc := 45) dX9_can_45 rfl) ?_
      refine gb_get (pc := 46) fl956 dX9_can_46 q1938 (Or.inl rfl) (fun v21 => ?_)
      refine zst_ (gj_aload_n 0 (pc := 49) dX9_can_49 rfl) ?_
      refine gb_get (pc := 50) fl921 dX9_can_50 q1903 (Or.inl rfl) (fun v22 => ?_)
      refine zst_ (gj_iload_n 1 (pc := 53) dX9_can_53 rfl) ?_
      refine gb_iald (pc := 54) dX9_can_54 (fun v23 => ?_)
      refine gb_iald (pc := 55) dX9_can_55 (fun v24 => ?_)
      refine gb_if (gj_if_le 63 (pc := 56) dX9_can_56 (by decide)) ?_ ?_
      · refine zst_ (gj_iconst (pc := 63) dX9_can_63 (by decide)) ?_
        refine zst_ (gj_sub [] rfl) ?_
        exact fun h => w_X9_can_64 0 σ h hk
      · refine zst_ (gj_iconst (pc := 59) dX9_can_59 (by decide)) ?_
        refine zst_ (gj_goto 64 (pc := 60) dX9_can_60 (by decide)) ?_
        refine zst_ (gj_sub [] rfl) ?_
        exact fun h => w_X9_can_64 1 σ h hk
  · refine zst_ (gj_aload_n 0 (pc := 10) dX9_can_10 rfl) ?_
    refine zst_ (gj_aload_n 0 (pc := 11) dX9_can_11 rfl) ?_
    refine gb_get (pc := 12) fl923 dX9_can_12 q1905 (Or.inl rfl) (fun v25 => ?_)
    refine zst_ (gj_iload_n 1 (pc := 15) dX9_can_15 rfl) ?_
    refine gb_iald (pc := 16) dX9_can_16 (fun v26 => ?_)
    refine zst_ (gj_aload_n 0 (pc := 17) dX9_can_17 rfl) ?_
    refine gb_get (pc := 18) fl924 dX9_can_18 q1906 (Or.inl rfl) (fun v27 => ?_)
    refine zst_ (gj_iload_n 1 (pc := 21) dX9_can_21 rfl) ?_
    refine gb_iald (pc := 22) dX9_can_22 (fun v28 => ?_)
    refine gb_gd (fun hb => ?_)
    refine gb_callI (pc := 23) (as := [zr x0, zi v26, zi v28]) (rest := []) (zCl.of (zLk_V (M := MX9_can) (ci := 9) (r := (RX9, TX9, 84)) plX9_worth.1 rfl rfl (zisE hb).1 (zisE hb).2 dX9_can_23 q2268 q2270 qs73 q2271) plX9_worth (Nat.le_of_ble_eq_true rfl) (fun h => c_X9_worth h)) (fun v29 σ30 => ?_)
    refine gb_if (gj_if_eq 33 (pc := 26) dX9_can_26 (by decide)) ?_ ?_
    · refine zst_ (gj_iconst (pc := 33) dX9_can_33 (by decide)) ?_
      refine zst_ (gj_sub [] rfl) ?_
      exact fun h => w_X9_can_34 0 σ30 h hk
    · refine zst_ (gj_iconst (pc := 29) dX9_can_29 (by decide)) ?_
      refine zst_ (gj_goto 34 (pc := 30) dX9_can_30 (by decide)) ?_
      refine zst_ (gj_sub [] rfl) ?_
      exact fun h => w_X9_can_34 1 σ30 h hk
theorem q2259 : (Jvm.Cond.code ({ cls := "LassoFinderModel", name := "doable", desc := "()J" } : Jvm.MethodName) prog_22_method_33_code (10 : Nat) (Option.some Jvm.ClassFile.FieldType.long)) ∈ lw_all := lw_g (lw_at lw_m9 239 rfl) rfl
theorem q2264 : (Jvm.Cond.methodLink "LassoFinderModel" (321 : Nat) ({ cls := "LassoFinderModel", name := "can", desc := "(I)Z" } : Jvm.MethodName)) ∈ lw_all := lw_g (lw_at lw_m10 4 rfl) rfl
theorem q2266 : (Jvm.Cond.instanceMethod ({ cls := "LassoFinderModel", name := "can", desc := "(I)Z" } : Jvm.MethodName)) ∈ lw_all := lw_g (lw_at lw_m10 6 rfl) rfl
abbrev cX9_doable : ByteArray := prog_22_method_33_code
def yX9_doable : MethodName := ⟨RX9, "doable", "()J"⟩
theorem dX9_doable_0 : decode cX9_doable 0 = .ok (.lconst 0, 1) := by decide +kernel
theorem dX9_doable_1 : decode cX9_doable 1 = .ok (.lstore_n 1, 1) := by decide +kernel
theorem dX9_doable_2 : decode cX9_doable 2 = .ok (.iconst 0, 1) := by decide +kernel
theorem dX9_doable_3 : decode cX9_doable 3 = .ok (.istore_n 3, 1) := by decide +kernel
theorem dX9_doable_4 : decode cX9_doable 4 = .ok (.iload_n 3, 1) := by decide +kernel
theorem dX9_doable_5 : decode cX9_doable 5 = .ok (.aload_n 0, 1) := by decide +kernel
theorem dX9_doable_6 : decode cX9_doable 6 = .ok (.getfield 254, 3) := by decide +kernel
theorem dX9_doable_9 : decode cX9_doable 9 = .ok (.if_icmp .ge 118, 3) := by decide +kernel
theorem dX9_doable_12 : decode cX9_doable 12 = .ok (.lconst 0, 1) := by decide +kernel
theorem dX9_doable_13 : decode cX9_doable 13 = .ok (.lstore 4, 2) := by decide +kernel
theorem dX9_doable_15 : decode cX9_doable 15 = .ok (.lconst 0, 1) := by decide +kernel
theorem dX9_doable_16 : decode cX9_doable 16 = .ok (.lstore 6, 2) := by decide +kernel
theorem dX9_doable_18 : decode cX9_doable 18 = .ok (.iconst 0, 1) := by decide +kernel
theorem dX9_doable_19 : decode cX9_doable 19 = .ok (.istore 8, 2) := by decide +kernel
theorem dX9_doable_21 : decode cX9_doable 21 = .ok (.iload 8, 2) := by decide +kernel
theorem dX9_doable_23 : decode cX9_doable 23 = .ok (.aload_n 0, 1) := by decide +kernel
theorem dX9_doable_24 : decode cX9_doable 24 = .ok (.getfield 257, 3) := by decide +kernel
theorem dX9_doable_27 : decode cX9_doable 27 = .ok (.if_icmp .ge 77, 3) := by decide +kernel
theorem dX9_doable_30 : decode cX9_doable 30 = .ok (.aload_n 0, 1) := by decide +kernel
theorem dX9_doable_31 : decode cX9_doable 31 = .ok (.iload_n 3, 1) := by decide +kernel
theorem dX9_doable_32 : decode cX9_doable 32 = .ok (.invokevirtual 310, 3) := by decide +kernel
theorem dX9_doable_35 : decode cX9_doable 35 = .ok (.iload 8, 2) := by decide +kernel
theorem dX9_doable_37 : decode cX9_doable 37 = .ok (.lshr, 1) := by decide +kernel
theorem dX9_doable_38 : decode cX9_doable 38 = .ok (.lconst 1, 1) := by decide +kernel
theorem dX9_doable_39 : decode cX9_doable 39 = .ok (.land, 1) := by decide +kernel
theorem dX9_doable_40 : decode cX9_doable 40 = .ok (.lconst 0, 1) := by decide +kernel
theorem dX9_doable_41 : decode cX9_doable 41 = .ok (.lcmp, 1) := by decide +kernel
theorem dX9_doable_42 : decode cX9_doable 42 = .ok (.ifCond .ne 6, 3) := by decide +kernel
theorem dX9_doable_45 : decode cX9_doable 45 = .ok (.goto 53, 3) := by decide +kernel
theorem dX9_doable_48 : decode cX9_doable 48 = .ok (.aload_n 0, 1) := by decide +kernel
theorem dX9_doable_49 : decode cX9_doable 49 = .ok (.getfield 69, 3) := by decide +kernel
theorem dX9_doable_52 : decode cX9_doable 52 = .ok (.iload 8, 2) := by decide +kernel
theorem dX9_doable_54 : decode cX9_doable 54 = .ok (.iaload, 1) := by decide +kernel
theorem dX9_doable_55 : decode cX9_doable 55 = .ok (.istore 9, 2) := by decide +kernel
theorem dX9_doable_57 : decode cX9_doable 57 = .ok (.aload_n 0, 1) := by decide +kernel
theorem dX9_doable_58 : decode cX9_doable 58 = .ok (.getfield 29, 3) := by decide +kernel
theorem dX9_doable_61 : decode cX9_doable 61 = .ok (.iload 9, 2) := by decide +kernel
theorem dX9_doable_63 : decode cX9_doable 63 = .ok (.iaload, 1) := by decide +kernel
theorem dX9_doable_64 : decode cX9_doable 64 = .ok (.iconst 5, 1) := by decide +kernel
theorem dX9_doable_65 : decode cX9_doable 65 = .ok (.if_icmp .ne 15, 3) := by decide +kernel
theorem dX9_doable_68 : decode cX9_doable 68 = .ok (.lload 6, 2) := by decide +kernel
theorem dX9_doable_70 : decode cX9_doable 70 = .ok (.lconst 1, 1) := by decide +kernel
theorem dX9_doable_71 : decode cX9_doable 71 = .ok (.iload 8, 2) := by decide +kernel
theorem dX9_doable_73 : decode cX9_doable 73 = .ok (.lshl, 1) := by decide +kernel
theorem dX9_doable_74 : decode cX9_doable 74 = .ok (.lor, 1) := by decide +kernel
theorem dX9_doable_75 : decode cX9_doable 75 = .ok (.lstore 6, 2) := by decide +kernel
theorem dX9_doable_77 : decode cX9_doable 77 = .ok (.goto 21, 3) := by decide +kernel
theorem dX9_doable_80 : decode cX9_doable 80 = .ok (.aload_n 0, 1) := by decide +kernel
theorem dX9_doable_81 : decode cX9_doable 81 = .ok (.iload 9, 2) := by decide +kernel
theorem dX9_doable_83 : decode cX9_doable 83 = .ok (.invokevirtual 321, 3) := by decide +kernel
theorem dX9_doable_86 : decode cX9_doable 86 = .ok (.ifCond .eq 12, 3) := by decide +kernel
theorem dX9_doable_89 : decode cX9_doable 89 = .ok (.lload 4, 2) := by decide +kernel
theorem dX9_doable_91 : decode cX9_doable 91 = .ok (.lconst 1, 1) := by decide +kernel
theorem dX9_doable_92 : decode cX9_doable 92 = .ok (.iload 8, 2) := by decide +kernel
theorem dX9_doable_94 : decode cX9_doable 94 = .ok (.lshl, 1) := by decide +kernel
theorem dX9_doable_95 : decode cX9_doable 95 = .ok (.lor, 1) := by decide +kernel
theorem dX9_doable_96 : decode cX9_doable 96 = .ok (.lstore 4, 2) := by decide +kernel
theorem dX9_doable_98 : decode cX9_doable 98 = .ok (.iinc 8 1, 3) := by decide +kernel
theorem dX9_doable_101 : decode cX9_doable 101 = .ok (.goto (-80), 3) := by decide +kernel
theorem dX9_doable_104 : decode cX9_doable 104 = .ok (.lload_n 1, 1) := by decide +kernel
theorem dX9_doable_105 : decode cX9_doable 105 = .ok (.lload 4, 2) := by decide +kernel
theorem dX9_doable_107 : decode cX9_doable 107 = .ok (.lconst 0, 1) := by decide +kernel
theorem dX9_doable_108 : decode cX9_doable 108 = .ok (.lcmp, 1) := by decide +kernel
theorem dX9_doable_109 : decode cX9_doable 109 = .ok (.ifCond .ne 8, 3) := by decide +kernel
theorem dX9_doable_112 : decode cX9_doable 112 = .ok (.lload 6, 2) := by decide +kernel
theorem dX9_doable_114 : decode cX9_doable 114 = .ok (.goto 5, 3) := by decide +kernel
theorem dX9_doable_117 : decode cX9_doable 117 = .ok (.lload 4, 2) := by decide +kernel
theorem dX9_doable_119 : decode cX9_doable 119 = .ok (.lor, 1) := by decide +kernel
theorem dX9_doable_120 : decode cX9_doable 120 = .ok (.lstore_n 1, 1) := by decide +kernel
theorem dX9_doable_121 : decode cX9_doable 121 = .ok (.iinc 3 1, 3) := by decide +kernel
theorem dX9_doable_124 : decode cX9_doable 124 = .ok (.goto (-120), 3) := by decide +kernel
theorem dX9_doable_127 : decode cX9_doable 127 = .ok (.aload_n 0, 1) := by decide +kernel
theorem dX9_doable_128 : decode cX9_doable 128 = .ok (.getfield 301, 3) := by decide +kernel
theorem dX9_doable_131 : decode cX9_doable 131 = .ok (.ifCond .lt 31, 3) := by decide +kernel
theorem dX9_doable_134 : decode cX9_doable 134 = .ok (.lload_n 1, 1) := by decide +kernel
theorem dX9_doable_135 : decode cX9_doable 135 = .ok (.aload_n 0, 1) := by decide +kernel
theorem dX9_doable_136 : decode cX9_doable 136 = .ok (.aload_n 0, 1) := by decide +kernel
theorem dX9_doable_137 : decode cX9_doable 137 = .ok (.getfield 301, 3) := by decide +kernel
theorem dX9_doable_140 : decode cX9_doable 140 = .ok (.invokevirtual 310, 3) := by decide +kernel
theorem dX9_doable_143 : decode cX9_doable 143 = .ok (.land, 1) := by decide +kernel
theorem dX9_doable_144 : decode cX9_doable 144 = .ok (.lconst 0, 1) := by decide +kernel
theorem dX9_doable_145 : decode cX9_doable 145 = .ok (.lcmp, 1) := by decide +kernel
theorem dX9_doable_146 : decode cX9_doable 146 = .ok (.ifCond .eq 16, 3) := by decide +kernel
theorem dX9_doable_149 : decode cX9_doable 149 = .ok (.lload_n 1, 1) := by decide +kernel
theorem dX9_doable_150 : decode cX9_doable 150 = .ok (.aload_n 0, 1) := by decide +kernel
theorem dX9_doable_151 : decode cX9_doable 151 = .ok (.aload_n 0, 1) := by decide +kernel
theorem dX9_doable_152 : decode cX9_doable 152 = .ok (.getfield 301, 3) := by decide +kernel
theorem dX9_doable_155 : decode cX9_doable 155 = .ok (.invokevirtual 310, 3) := by decide +kernel
theorem dX9_doable_158 : decode cX9_doable 158 = .ok (.land, 1) := by decide +kernel
theorem dX9_doable_159 : decode cX9_doable 159 = .ok (.goto 4, 3) := by decide +kernel
theorem dX9_doable_162 : decode cX9_doable 162 = .ok (.lload_n 1, 1) := by decide +kernel
theorem dX9_doable_163 : decode cX9_doable 163 = .ok (.lreturn, 1) := by decide +kernel
abbrev MX9_doable : zT := (yX9_doable, cX9_doable, 10, (Option.some Jvm.ClassFile.FieldType.long), [])
theorem plX9_doable : zplain MX9_doable 0 ∧ (zcodeW MX9_doable ∈ lw_all ∧ Cond.initialized MX9_doable.1.cls ∈ lw_all) := ⟨⟨by decide +kernel, by decide +kernel⟩, q2259, q127⟩
noncomputable def f_X9_doable_163 (t0 : Int) (σ : zM) : Option zO :=
  some (0, zj t0, σ)
theorem w_X9_doable_163 {g : zG} {lv : Nat} {out : zO} (t0 : Int) (σ : zM) {r : zO} (h : f_X9_doable_163 t0 σ = some r) (hk : (fun o : zO => o = out) r) : Gj g MX9_doable (lv + 3) 163 [] [zj t0] σ out := by
  revert h
  unfold f_X9_doable_163
  intro h
  cases h
  have hk : (0, zj t0, σ) = out := hk
  subst hk
  exact gj_lret (pc := 163) dX9_doable_163 rfl
noncomputable def f_X9_doable_162 (x1 : Int) (σ : zM) : Option zO :=
  f_X9_doable_163 x1 σ
theorem w_X9_doable_162 {g : zG} {lv : Nat} {out : zO} (x1 : Int) (σ : zM) {r : zO} (h : f_X9_doable_162 x1 σ = some r) (hk : (fun o : zO => o = out) r) : Gj g MX9_doable (lv + 3) 162 [(1, zj x1)] [] σ out := by
  revert h
  unfold f_X9_doable_162
  refine zst_ (gj_lload_n 0 (pc := 162) dX9_doable_162 rfl) ?_
  refine zst_ (gj_sub [] rfl) ?_
  exact fun h => w_X9_doable_163 x1 σ h hk
noncomputable def f_X9_doable_127 (x0 x1 : Int) (σ : zM) : Option zO :=
  (zgf σ 959 x0).bind fun v1 =>
  if v1 < 0 then
    f_X9_doable_162 x1 σ
  else
    (zgf σ 959 x0).bind fun v2 =>
    zgd (zis σ 10 x0) <|
    zcj (f_X9_maskOf x0 v2 σ) fun v3 σ4 =>
    if (zlcmp (jand x1 v3) 0) = 0 then
      f_X9_doable_162 x1 σ4
    else
      (zgf σ4 959 x0).bind fun v5 =>
      zgd (zis σ4 10 x0) <|
      zcj (f_X9_maskOf x0 v5 σ4) fun v6 σ7 =>
      f_X9_doable_163 (jand x1 v6) σ7
theorem w_X9_doable_127 {g : zG} {lv : Nat} {out : zO} (x0 x1 : Int) (σ : zM) {r : zO} (h : f_X9_doable_127 x0 x1 σ = some r) (hk : (fun o : zO => o = out) r) : Gj g MX9_doable (lv + 3) 127 [(0, zr x0), (1, zj x1)] [] σ out := by
  revert h
  unfold f_X9_doable_127
  refine zst_ (gj_aload_n 0 (pc := 127) dX9_doable_127 rfl) ?_
  refine gb_get (pc := 128) fl959 dX9_doable_128 q1941 (Or.inl rfl) (fun v1 => ?_)
  refine gb_if (gj_if_lt 162 (pc := 131) dX9_doable_131 (by decide)) ?_ ?_
  · refine zst_ (gj_sub [1] rfl) ?_
    exact fun h => w_X9_doable_162 x1 σ h hk
  · refine zst_ (gj_lload_n 1 (pc := 134) dX9_doable_134 rfl) ?_
    refine zst_ (gj_aload_n 0 (pc := 135) dX9_doable_135 rfl) ?_
    refine zst_ (gj_aload_n 0 (pc := 136) dX9_doable_136 rfl) ?_
    refine gb_get (pc := 137) fl959 dX9_doable_137 q1941 (Or.inl rfl) (fun v2 => ?_)
    refine gb_gd (fun hb => ?_)
    refine gb_callJ (pc := 140) (as := [zr x0, zi v2]) (rest := [zj x1]) (zCl.of (zLk_V (M := MX9_doable) (ci := 9) (r := (RX9, TX9, 84)) plX9_maskOf.1 rfl rfl (zisE hb).1 (zisE hb).2 dX9_doable_140 q2260 q2262 qs71 q2263) plX9_maskOf (Nat.le_of_ble_eq_true rfl) (fun h => c_X9_maskOf h)) (fun v3 σ4 => ?_)
    refine zst_ (gj_land (pc := 143) dX9_doable_143) ?_
    refine zst_ (gj_lconst0 (pc := 144) dX9_doable_144) ?_
    refine zst_ (gj_lcmp (pc := 145) dX9_doable_145) ?_
    refine gb_if (gj_if_eq 162 (pc := 146) dX9_doable_146 (by decide)) ?_ ?_
    · refine zst_ (gj_sub [1] rfl) ?_
      exact fun h => w_X9_doable_162 x1 σ4 h hk
    · refine zst_ (gj_lload_n 1 (pc := 149) dX9_doable_149 rfl) ?_
      refine zst_ (gj_aload_n 0 (pc := 150) dX9_doable_150 rfl) ?_
      refine zst_ (gj_aload_n 0 (pc := 151) dX9_doable_151 rfl) ?_
      refine gb_get (pc := 152) fl959 dX9_doable_152 q1941 (Or.inl rfl) (fun v5 => ?_)
      refine gb_gd (fun hb => ?_)
      refine gb_callJ (pc := 155) (as := [zr x0, zi v5]) (rest := [zj x1]) (zCl.of (zLk_V (M := MX9_doable) (ci := 9) (r := (RX9, TX9, 84)) plX9_maskOf.1 rfl rfl (zisE hb).1 (zisE hb).2 dX9_doable_155 q2260 q2262 qs71 q2263) plX9_maskOf (Nat.le_of_ble_eq_true rfl) (fun h => c_X9_maskOf h)) (fun v6 σ7 => ?_)
      refine zst_ (gj_land (pc := 158) dX9_doable_158) ?_
      refine zst_ (gj_goto 163 (pc := 159) dX9_doable_159 (by decide)) ?_
      refine zst_ (gj_sub [] rfl) ?_
      exact fun h => w_X9_doable_163 (jand x1 v6) σ7 h hk
noncomputable def f_X9_doable_119 (x0 x3 t0 t1 : Int) (σ : zM) : Option ((Int × Int × zM) ⊕ zO) :=
  zlet ((jor t1 t0)) fun y1 =>
  zlet (zadd x3 1) fun y2 =>
  some (.inl (y1, y2, σ))
theorem w_X9_doable_119 {g : zG} {lv : Nat} {out : zO} (x0 x3 t0 t1 : Int) (σ : zM) {r : ((Int × Int × zM) ⊕ zO)} (h : f_X9_doable_119 x0 x3 t0 t1 σ = some r) (hk : (zKL (fun s : Int × Int × zM => Gj g MX9_doable (lv + 3) 4 [(0, zr x0), (1, zj s.1), (3, zi s.2.1)] [] s.2.2 out) (fun o : zO => o = out)) r) : Gj g MX9_doable (lv + 3) 119 [(0, zr x0), (3, zi x3)] [zj t0, zj t1] σ out := by
  revert h
  unfold f_X9_doable_119
  refine zst_ (gj_lor (pc := 119) dX9_doable_119) ?_
  refine gb_let (fun y1 => ?_)
  refine zst_ (gj_lstore_n (pc := 120) (ls' := [(1, zj y1), (0, zr x0), (3, zi x3)]) dX9_doable_120 (by decide) rfl) ?_
  refine gb_iinc (pc := 121) 2 (fun y2 => [(3, zi y2), (1, zj y1), (0, zr x0)]) dX9_doable_121 rfl (by decide) (fun _ => rfl) (fun y2 => ?_)
  refine zst_ (gj_goto 4 (pc := 124) dX9_doable_124 (by decide)) ?_
  refine zst_ (gj_sub [2, 1, 0] rfl) ?_
  intro h
  cases h
  exact hk
noncomputable def f_X9_doable_104 (x0 x1 x3 x4 x6 : Int) (σ : zM) : Option ((Int × Int × zM) ⊕ zO) :=
  if (zlcmp x4 0) ≠ 0 then
    f_X9_doable_119 x0 x3 x4 x1 σ
  else
    f_X9_doable_119 x0 x3 x6 x1 σ
theorem w_X9_doable_104 {g : zG} {lv : Nat} {out : zO} (x0 x1 x3 x4 x6 : Int) (σ : zM) {r : ((Int × Int × zM) ⊕ zO)} (h : f_X9_doable_104 x0 x1 x3 x4 x6 σ = some r) (hk : (zKL (fun s : Int × Int × zM => Gj g MX9_doable (lv + 3) 4 [(0, zr x0), (1, zj s.1), (3, zi s.2.1)] [] s.2.2 out) (fun o : zO => o = out)) r) : Gj g MX9_doable (lv + 3) 104 [(0, zr x0), (1, zj x1), (3, zi x3), (4, zj x4), (6, zj x6)] [] σ out := by
  revert h
  unfold f_X9_doable_104
  refine zst_ (gj_lload_n 1 (pc := 104) dX9_doable_104 rfl) ?_
  refine zst_ (gj_lload 3 (pc := 105) dX9_doable_105 rfl) ?_
  refine zst_ (gj_lconst0 (pc := 107) dX9_doable_107) ?_
  refine zst_ (gj_lcmp (pc := 108) dX9_doable_108) ?_
  refine gb_if (gj_if_ne 117 (pc := 109) dX9_doable_109 (by decide)) ?_ ?_
  · refine zst_ (gj_lload 3 (pc := 117) dX9_doable_117 rfl) ?_
    refine zst_ (gj_sub [0, 2] rfl) ?_
    exact fun h => w_X9_doable_119 x0 x3 x4 x1 σ h hk
  · refine zst_ (gj_lload 4 (pc := 112) dX9_doable_112 rfl) ?_
    refine zst_ (gj_goto 119 (pc := 114) dX9_doable_114 (by decide)) ?_
    refine zst_ (gj_sub [0, 2] rfl) ?_
    exact fun h => w_X9_doable_119 x0 x3 x6 x1 σ h hk
noncomputable def f_X9_doable_98 (x0 x1 x3 x4 x6 x8 : Int) (σ : zM) : Option ((Int × Int × Int × zM) ⊕ ((Int × Int × zM) ⊕ zO)) :=
  zlet (zadd x8 1) fun y1 =>
  some (.inl (x4, x6, y1, σ))
theorem w_X9_doable_98 {g : zG} {lv : Nat} {out : zO} (x0 x1 x3 x4 x6 x8 : Int) (σ : zM) {r : ((Int × Int × Int × zM) ⊕ ((Int × Int × zM) ⊕ zO))} (h : f_X9_doable_98 x0 x1 x3 x4 x6 x8 σ = some r) (hk : (zKL (fun s : Int × Int × Int × zM => Gj g MX9_doable (lv + 3) 21 [(0, zr x0), (1, zj x1), (3, zi x3), (4, zj s.1), (6, zj s.2.1), (8, zi s.2.2.1)] [] s.2.2.2 out) (zKL (fun s : Int × Int × zM => Gj g MX9_doable (lv + 3) 4 [(0, zr x0), (1, zj s.1), (3, zi s.2.1)] [] s.2.2 out) (fun o : zO => o = out))) r) : Gj g MX9_doable (lv + 3) 98 [(0, zr x0), (1, zj x1), (3, zi x3), (4, zj x4), (6, zj x6), (8, zi x8)] [] σ out := by
  revert h
  unfold f_X9_doable_98
  refine gb_iinc (pc := 98) 5 (fun y1 => [(8, zi y1), (0, zr x0), (1, zj x1), (3, zi x3), (4, zj x4), (6, zj x6)]) dX9_doable_98 rfl (by decide) (fun _ => rfl) (fun y1 => ?_)
  refine zst_ (gj_goto 21 (pc := 101) dX9_doable_101 (by decide)) ?_
  refine zst_ (gj_sub [1, 2, 3, 4, 5, 0] rfl) ?_
  intro h
  cases h
  exact hk
noncomputable def f_X9_doable_21_b (x0 x1 x3 x4 x6 x8 : Int) (σ : zM) : Option ((Int × Int × Int × zM) ⊕ ((Int × Int × zM) ⊕ zO)) :=
  (zgf σ 927 x0).bind fun v1 =>
  if v1 ≤ x8 then
    (f_X9_doable_104 x0 x1 x3 x4 x6 σ).map (fun r => (.inr r))
  else
    zgd (zis σ 10 x0) <|
    zcj (f_X9_maskOf x0 x3 σ) fun v2 σ3 =>
    if (zlcmp (jand (jshr v2 x8) 1) 0) ≠ 0 then
      (zgf σ3 928 x0).bind fun v4 =>
      (zga σ3 101 v4 x8).bind fun v5 =>
      (zgf σ3 914 x0).bind fun v6 =>
      (zga σ3 101 v6 v5).bind fun v7 =>
      if v7 ≠ 5 then
        zgd (zis σ3 10 x0) <|
        zci (f_X9_can x0 v5 σ3) fun v8 σ9 =>
        if v8 = 0 then
          f_X9_doable_98 x0 x1 x3 x4 x6 x8 σ9
        else
          zlet ((jor x4 (jshl 1 x8))) fun y10 =>
          f_X9_doable_98 x0 x1 x3 y10 x6 x8 σ9
      else
        zlet ((jor x6 (jshl 1 x8))) fun y11 =>
        f_X9_doable_98 x0 x1 x3 x4 y11 x8 σ3
    else
      f_X9_doable_98 x0 x1 x3 x4 x6 x8 σ3
noncomputable def f_X9_doable_21 (x0 x1 x3 x4 x6 x8 : Int) (σ : zM) : Option ((Int × Int × zM) ⊕ zO) :=
  zloop (fun s : Int × Int × Int × zM => f_X9_doable_21_b x0 x1 x3 s.1 s.2.1 s.2.2.1 s.2.2.2) (x4, x6, x8, σ)
theorem w_X9_doable_21_b {g : zG} {lv : Nat} {out : zO} (x0 x1 x3 x4 x6 x8 : Int) (σ : zM) {r : ((Int × Int × Int × zM) ⊕ ((Int × Int × zM) ⊕ zO))} (h : f_X9_doable_21_b x0 x1 x3 x4 x6 x8 σ = some r) (hk : (zKL (fun s : Int × Int × Int × zM => Gj g MX9_doable (lv + 3) 21 [(0, zr x0), (1, zj x1), (3, zi x3), (4, zj s.1), (6, zj s.2.1), (8, zi s.2.2.1)] [] s.2.2.2 out) (zKL (fun s : Int × Int × zM => Gj g MX9_doable (lv + 3) 4 [(0, zr x0), (1, zj s.1), (3, zi s.2.1)] [] s.2.2 out) (fun o : zO => o = out))) r) : Gj g MX9_doable (lv + 3) 21 [(0, zr x0), (1, zj x1), (3, zi x3), (4, zj x4), (6, zj x6), (8, zi x8)] [] σ out := by
  revert h
  unfold f_X9_doable_21_b
  refine zst_ (gj_iload 5 (pc := 21) dX9_doable_21 rfl) ?_
  refine zst_ (gj_aload_n 0 (pc := 23) dX9_doable_23 rfl) ?_
  refine gb_get (pc := 24) fl927 dX9_doable_24 q1909 (Or.inl rfl) (fun v1 => ?_)
  refine gb_if (gj_icmp_ge 104 (pc := 27) dX9_doable_27 (by decide)) ?_ ?_
  · refine zst_ (gj_sub [0, 1, 2, 3, 4] rfl) ?_
    intro h
    obtain ⟨r0, h0, rfl⟩ := zmE h
    exact w_X9_doable_104 x0 x1 x3 x4 x6 σ h0 hk
  · refine zst_ (gj_aload_n 0 (pc := 30) dX9_doable_30 rfl) ?_
    refine zst_ (gj_iload_n 2 (pc := 31) dX9_doable_31 rfl) ?_
    refine gb_gd (fun hb => ?_)
    refine gb_callJ (pc := 32) (as := [zr x0, zi x3]) (rest := []) (zCl.of (zLk_V (M := MX9_doable) (ci := 9) (r := (RX9, TX9, 84)) plX9_maskOf.1 rfl rfl (zisE hb).1 (zisE hb).2 dX9_doable_32 q2260 q2262 qs71 q2263) plX9_maskOf (Nat.le_of_ble_eq_true rfl) (fun h => c_X9_maskOf h)) (fun v2 σ3 => ?_)
    refine zst_ (gj_iload 5 (pc := 35) dX9_doable_35 rfl) ?_
    refine zst_ (gj_lshr (pc := 37) dX9_doable_37) ?_
    refine zst_ (gj_lconst1 (pc := 38) dX9_doable_38) ?_
    refine zst_ (gj_land (pc := 39) dX9_doable_39) ?_
    refine zst_ (gj_lconst0 (pc := 40) dX9_doable_40) ?_
    refine zst_ (gj_lcmp (pc := 41) dX9_doable_41) ?_
    refine gb_if (gj_if_ne 48 (pc := 42) dX9_doable_42 (by decide)) ?_ ?_
    · refine zst_ (gj_aload_n 0 (pc := 48) dX9_doable_48 rfl) ?_
      refine gb_get (pc := 49) fl928 dX9_doable_49 q1910 (Or.inl rfl) (fun v4 => ?_)
      refine zst_ (gj_iload 5 (pc := 52) dX9_doable_52 rfl) ?_
      refine gb_iald (pc := 54) dX9_doable_54 (fun v5 => ?_)
      refine zst_ (gj_istore (pc := 55) (ls' := [(9, zi v5), (0, zr x0), (1, zj x1), (3, zi x3), (4, zj x4), (6, zj x6), (8, zi x8)]) dX9_doable_55 (by decide) rfl) ?_
      refine zst_ (gj_aload_n 1 (pc := 57) dX9_doable_57 rfl) ?_
      refine gb_get (pc := 58) fl914 dX9_doable_58 q1896 (Or.inl rfl) (fun v6 => ?_)
      refine zst_ (gj_iload 0 (pc := 61) dX9_doable_61 rfl) ?_
      refine gb_iald (pc := 63) dX9_doable_63 (fun v7 => ?_)
      refine zst_ (gj_iconst (pc := 64) dX9_doable_64 (by decide)) ?_
      refine gb_if (gj_icmp_ne 80 (pc := 65) dX9_doable_65 (by decide)) ?_ ?_
      · refine zst_ (gj_aload_n 1 (pc := 80) dX9_doable_80 rfl) ?_
        refine zst_ (gj_iload 0 (pc := 81) dX9_doable_81 rfl) ?_
        refine gb_gd (fun hb => ?_)
        refine gb_callI (pc := 83) (as := [zr x0, zi v5]) (rest := []) (zCl.of (zLk_V (M := MX9_doable) (ci := 9) (r := (RX9, TX9, 84)) plX9_can.1 rfl rfl (zisE hb).1 (zisE hb).2 dX9_doable_83 q2264 q2266 qs72 q2267) plX9_can (Nat.le_of_ble_eq_true rfl) (fun h => c_X9_can h)) (fun v8 σ9 => ?_)
        refine gb_if (gj_if_eq 98 (pc := 86) dX9_doable_86 (by decide)) ?_ ?_
        · refine zst_ (gj_sub [1, 2, 3, 4, 5, 6] rfl) ?_
          exact fun h => w_X9_doable_98 x0 x1 x3 x4 x6 x8 σ9 h hk
        · refine zst_ (gj_lload 4 (pc := 89) dX9_doable_89 rfl) ?_
          refine zst_ (gj_lconst1 (pc := 91) dX9_doable_91) ?_
          refine zst_ (gj_iload 6 (pc := 92) dX9_doable_92 rfl) ?_
          refine zst_ (gj_lshl (pc := 94) dX9_doable_94) ?_
          refine zst_ (gj_lor (pc := 95) dX9_doable_95) ?_
          refine gb_let (fun y10 => ?_)
          refine zst_ (gj_lstore (pc := 96) (ls' := [(4, zj y10), (9, zi v5), (0, zr x0), (1, zj x1), (3, zi x3), (6, zj x6), (8, zi x8)]) dX9_doable_96 (by decide) rfl) ?_
          refine zst_ (gj_sub [2, 3, 4, 0, 5, 6] rfl) ?_
          exact fun h => w_X9_doable_98 x0 x1 x3 y10 x6 x8 σ9 h hk
      · refine zst_ (gj_lload 5 (pc := 68) dX9_doable_68 rfl) ?_
        refine zst_ (gj_lconst1 (pc := 70) dX9_doable_70) ?_
        refine zst_ (gj_iload 6 (pc := 71) dX9_doable_71 rfl) ?_
        refine zst_ (gj_lshl (pc := 73) dX9_doable_73) ?_
        refine zst_ (gj_lor (pc := 74) dX9_doable_74) ?_
        refine gb_let (fun y11 => ?_)
        refine zst_ (gj_lstore (pc := 75) (ls' := [(6, zj y11), (9, zi v5), (0, zr x0), (1, zj x1), (3, zi x3), (4, zj x4), (8, zi x8)]) dX9_doable_75 (by decide) rfl) ?_
        refine zst_ (gj_goto 98 (pc := 77) dX9_doable_77 (by decide)) ?_
        refine zst_ (gj_sub [2, 3, 4, 5, 0, 6] rfl) ?_
        exact fun h => w_X9_doable_98 x0 x1 x3 x4 y11 x8 σ3 h hk
    · refine zst_ (gj_goto 98 (pc := 45) dX9_doable_45 (by decide)) ?_
      exact fun h => w_X9_doable_98 x0 x1 x3 x4 x6 x8 σ3 h hk
theorem w_X9_doable_21 {g : zG} {lv : Nat} {out : zO} (x0 x1 x3 x4 x6 x8 : Int) (σ : zM) {r : ((Int × Int × zM) ⊕ zO)} (h : f_X9_doable_21 x0 x1 x3 x4 x6 x8 σ = some r) (hk : (zKL (fun s : Int × Int × zM => Gj g MX9_doable (lv + 3) 4 [(0, zr x0), (1, zj s.1), (3, zi s.2.1)] [] s.2.2 out) (fun o : zO => o = out)) r) : Gj g MX9_doable (lv + 3) 21 [(0, zr x0), (1, zj x1), (3, zi x3), (4, zj x4), (6, zj x6), (8, zi x8)] [] σ out :=
  gj_loop (P := (fun s : Int × Int × Int × zM => Gj g MX9_doable (lv + 3) 21 [(0, zr x0), (1, zj x1), (3, zi x3), (4, zj s.1), (6, zj s.2.1), (8, zi s.2.2.1)] [] s.2.2.2 out)) (fun s x hb hx => w_X9_doable_21_b x0 x1 x3 s.1 s.2.1 s.2.2.1 s.2.2.2 hb hx) h hk
noncomputable def f_X9_doable_4_b (x0 x1 x3 : Int) (σ : zM) : Option ((Int × Int × zM) ⊕ zO) :=
  (zgf σ 930 x0).bind fun v1 =>
  if v1 ≤ x3 then
    (f_X9_doable_127 x0 x1 σ).map (fun r => (.inr r))
  else
    f_X9_doable_21 x0 x1 x3 0 0 0 σ
noncomputable def f_X9_doable_4 (x0 x1 x3 : Int) (σ : zM) : Option zO :=
  zloop (fun s : Int × Int × zM => f_X9_doable_4_b x0 s.1 s.2.1 s.2.2) (x1, x3, σ)
theorem w_X9_doable_4_b {g : zG} {lv : Nat} {out : zO} (x0 x1 x3 : Int) (σ : zM) {r : ((Int × Int × zM) ⊕ zO)} (h : f_X9_doable_4_b x0 x1 x3 σ = some r) (hk : (zKL (fun s : Int × Int × zM => Gj g MX9_doable (lv + 3) 4 [(0, zr x0), (1, zj s.1), (3, zi s.2.1)] [] s.2.2 out) (fun o : zO => o = out)) r) : Gj g MX9_doable (lv + 3) 4 [(0, zr x0), (1, zj x1), (3, zi x3)] [] σ out := by
  revert h
  unfold f_X9_doable_4_b
  refine zst_ (gj_iload_n 2 (pc := 4) dX9_doable_4 rfl) ?_
  refine zst_ (gj_aload_n 0 (pc := 5) dX9_doable_5 rfl) ?_
  refine gb_get (pc := 6) fl930 dX9_doable_6 q1912 (Or.inl rfl) (fun v1 => ?_)
  refine gb_if (gj_icmp_ge 127 (pc := 9) dX9_doable_9 (by decide)) ?_ ?_
  · refine zst_ (gj_sub [0, 1] rfl) ?_
    intro h
    obtain ⟨r0, h0, rfl⟩ := zmE h
    exact w_X9_doable_127 x0 x1 σ h0 hk
  · refine zst_ (gj_lconst0 (pc := 12) dX9_doable_12) ?_
    refine zst_ (gj_lstore (pc := 13) (ls' := [(4, zj 0), (0, zr x0), (1, zj x1), (3, zi x3)]) dX9_doable_13 (by decide) rfl) ?_
    refine zst_ (gj_lconst0 (pc := 15) dX9_doable_15) ?_
    refine zst_ (gj_lstore (pc := 16) (ls' := [(6, zj 0), (4, zj 0), (0, zr x0), (1, zj x1), (3, zi x3)]) dX9_doable_16 (by decide) rfl) ?_
    refine zst_ (gj_iconst (pc := 18) dX9_doable_18 (by decide)) ?_
    refine zst_ (gj_istore (pc := 19) (ls' := [(8, zi 0), (6, zj 0), (4, zj 0), (0, zr x0), (1, zj x1), (3, zi x3)]) dX9_doable_19 (by decide) rfl) ?_
    refine zst_ (gj_sub [3, 4, 5, 2, 1, 0] rfl) ?_
    exact fun h => w_X9_doable_21 x0 x1 x3 0 0 0 σ h hk
theorem w_X9_doable_4 {g : zG} {lv : Nat} {out : zO} (x0 x1 x3 : Int) (σ : zM) {r : zO} (h : f_X9_doable_4 x0 x1 x3 σ = some r) (hk : (fun o : zO => o = out) r) : Gj g MX9_doable (lv + 3) 4 [(0, zr x0), (1, zj x1), (3, zi x3)] [] σ out :=
  gj_loop (P := (fun s : Int × Int × zM => Gj g MX9_doable (lv + 3) 4 [(0, zr x0), (1, zj s.1), (3, zi s.2.1)] [] s.2.2 out)) (fun s x hb hx => w_X9_doable_4_b x0 s.1 s.2.1 s.2.2 hb hx) h hk
noncomputable def f_X9_doable (x0 : Int) (σ : zM) : Option zO :=
  f_X9_doable_4 x0 0 0 σ
theorem c_X9_doable {g : zG} {lv : Nat} {x0 : Int} {σ : zM} {out : zO} (h : f_X9_doable x0 σ = some out) : Cj g (lv + 3) MX9_doable [zr x0] σ out := by
  refine cj_go (ls := [(0, zr x0)]) (by decide) (Nat.le_of_ble_eq_true rfl) rfl (zgen h (fun r hk => ?_))
  unfold f_X9_doable
  refine zst_ (gj_lconst0 (pc := 0) dX9_doable_0) ?_
  refine zst_ (gj_lstore_n (pc := 1) (ls' := [(1, zj 0), (0, zr x0)]) dX9_doable_1 (by decide) rfl) ?_
  refine zst_ (gj_iconst (pc := 2) dX9_doable_2 (by decide)) ?_
  refine zst_ (gj_istore_n (pc := 3) (ls' := [(3, zi 0), (1, zj 0), (0, zr x0)]) dX9_doable_3 (by decide) rfl) ?_
  refine zst_ (gj_sub [2, 1, 0] rfl) ?_
  exact fun h => w_X9_doable_4 x0 0 0 σ h hk
theorem q2287 : (Jvm.Cond.code ({ cls := "LassoFinderModel", name := "goesOn", desc := "(II)Z" } : Jvm.MethodName) prog_22_method_34_code (3 : Nat) (Option.some Jvm.ClassFile.FieldType.boolean)) ∈ lw_all := lw_g (lw_at lw_m10 27 rfl) rfl
abbrev cX9_goesOn : ByteArray := prog_22_method_34_code
def yX9_goesOn : MethodName := ⟨RX9, "goesOn", "(II)Z"⟩
theorem dX9_goesOn_0 : decode cX9_goesOn 0 = .ok (.aload_n 0, 1) := by decide +kernel
theorem dX9_goesOn_1 : decode cX9_goesOn 1 = .ok (.getfield 139, 3) := by decide +kernel
theorem dX9_goesOn_4 : decode cX9_goesOn 4 = .ok (.iload_n 1, 1) := by decide +kernel
theorem dX9_goesOn_5 : decode cX9_goesOn 5 = .ok (.aload_n 0, 1) := by decide +kernel
theorem dX9_goesOn_6 : decode cX9_goesOn 6 = .ok (.getfield 66, 3) := by decide +kernel
theorem dX9_goesOn_9 : decode cX9_goesOn 9 = .ok (.iload_n 2, 1) := by decide +kernel
theorem dX9_goesOn_10 : decode cX9_goesOn 10 = .ok (.iaload, 1) := by decide +kernel
theorem dX9_goesOn_11 : decode cX9_goesOn 11 = .ok (.iastore, 1) := by decide +kernel
theorem dX9_goesOn_12 : decode cX9_goesOn 12 = .ok (.aload_n 0, 1) := by decide +kernel
theorem dX9_goesOn_13 : decode cX9_goesOn 13 = .ok (.getfield 45, 3) := by decide +kernel
theorem dX9_goesOn_16 : decode cX9_goesOn 16 = .ok (.iload_n 2, 1) := by decide +kernel
theorem dX9_goesOn_17 : decode cX9_goesOn 17 = .ok (.iaload, 1) := by decide +kernel
theorem dX9_goesOn_18 : decode cX9_goesOn 18 = .ok (.ifCond .lt 52, 3) := by decide +kernel
theorem dX9_goesOn_21 : decode cX9_goesOn 21 = .ok (.aload_n 0, 1) := by decide +kernel
theorem dX9_goesOn_22 : decode cX9_goesOn 22 = .ok (.getfield 139, 3) := by decide +kernel
theorem dX9_goesOn_25 : decode cX9_goesOn 25 = .ok (.iload_n 1, 1) := by decide +kernel
theorem dX9_goesOn_26 : decode cX9_goesOn 26 = .ok (.iaload, 1) := by decide +kernel
theorem dX9_goesOn_27 : decode cX9_goesOn 27 = .ok (.aload_n 0, 1) := by decide +kernel
theorem dX9_goesOn_28 : decode cX9_goesOn 28 = .ok (.getfield 75, 3) := by decide +kernel
theorem dX9_goesOn_31 : decode cX9_goesOn 31 = .ok (.iload_n 1, 1) := by decide +kernel
theorem dX9_goesOn_32 : decode cX9_goesOn 32 = .ok (.iaload, 1) := by decide +kernel
theorem dX9_goesOn_33 : decode cX9_goesOn 33 = .ok (.if_icmp .ge 37, 3) := by decide +kernel
theorem dX9_goesOn_36 : decode cX9_goesOn 36 = .ok (.aload_n 0, 1) := by decide +kernel
theorem dX9_goesOn_37 : decode cX9_goesOn 37 = .ok (.getfield 45, 3) := by decide +kernel
theorem dX9_goesOn_40 : decode cX9_goesOn 40 = .ok (.aload_n 0, 1) := by decide +kernel
theorem dX9_goesOn_41 : decode cX9_goesOn 41 = .ok (.getfield 84, 3) := by decide +kernel
theorem dX9_goesOn_44 : decode cX9_goesOn 44 = .ok (.bipush 31, 2) := by decide +kernel
theorem dX9_goesOn_46 : decode cX9_goesOn 46 = .ok (.iload_n 1, 1) := by decide +kernel
theorem dX9_goesOn_47 : decode cX9_goesOn 47 = .ok (.imul, 1) := by decide +kernel
theorem dX9_goesOn_48 : decode cX9_goesOn 48 = .ok (.aload_n 0, 1) := by decide +kernel
theorem dX9_goesOn_49 : decode cX9_goesOn 49 = .ok (.getfield 139, 3) := by decide +kernel
theorem dX9_goesOn_52 : decode cX9_goesOn 52 = .ok (.iload_n 1, 1) := by decide +kernel
theorem dX9_goesOn_53 : decode cX9_goesOn 53 = .ok (.iaload, 1) := by decide +kernel
theorem dX9_goesOn_54 : decode cX9_goesOn 54 = .ok (.iadd, 1) := by decide +kernel
theorem dX9_goesOn_55 : decode cX9_goesOn 55 = .ok (.iaload, 1) := by decide +kernel
theorem dX9_goesOn_56 : decode cX9_goesOn 56 = .ok (.iaload, 1) := by decide +kernel
theorem dX9_goesOn_57 : decode cX9_goesOn 57 = .ok (.aload_n 0, 1) := by decide +kernel
theorem dX9_goesOn_58 : decode cX9_goesOn 58 = .ok (.getfield 45, 3) := by decide +kernel
theorem dX9_goesOn_61 : decode cX9_goesOn 61 = .ok (.iload_n 2, 1) := by decide +kernel
theorem dX9_goesOn_62 : decode cX9_goesOn 62 = .ok (.iaload, 1) := by decide +kernel
theorem dX9_goesOn_63 : decode cX9_goesOn 63 = .ok (.if_icmp .ne 7, 3) := by decide +kernel
theorem dX9_goesOn_66 : decode cX9_goesOn 66 = .ok (.iconst 1, 1) := by decide +kernel
theorem dX9_goesOn_67 : decode cX9_goesOn 67 = .ok (.goto 4, 3) := by decide +kernel
theorem dX9_goesOn_70 : decode cX9_goesOn 70 = .ok (.iconst 0, 1) := by decide +kernel
theorem dX9_goesOn_71 : decode cX9_goesOn 71 = .ok (.ireturn, 1) := by decide +kernel
abbrev MX9_goesOn : zT := (yX9_goesOn, cX9_goesOn, 3, (Option.some Jvm.ClassFile.FieldType.boolean), [])
theorem plX9_goesOn : zplain MX9_goesOn 2 ∧ (zcodeW MX9_goesOn ∈ lw_all ∧ Cond.initialized MX9_goesOn.1.cls ∈ lw_all) := ⟨⟨by decide +kernel, by decide +kernel⟩, q2287, q127⟩
noncomputable def f_X9_goesOn_71 (t0 : Int) (σ : zM) : Option zO :=
  zgd (z01 t0) <|
  some (0, zi t0, σ)
theorem w_X9_goesOn_71 {g : zG} {lv : Nat} {out : zO} (t0 : Int) (σ : zM) {r : zO} (h : f_X9_goesOn_71 t0 σ = some r) (hk : (fun o : zO => o = out) r) : Gj g MX9_goesOn (lv) 71 [] [zi t0] σ out := by
  revert h
  unfold f_X9_goesOn_71
  refine gb_gd (fun hb => ?_)
  intro h
  cases h
  have hk : (0, zi t0, σ) = out := hk
  subst hk
  exact gj_ret (pc := 71) (t := .boolean) dX9_goesOn_71 rfl ⟨rfl, rfl⟩ (fun _ => z01E hb)
noncomputable def f_X9_goesOn_70 (σ : zM) : Option zO :=
  f_X9_goesOn_71 0 σ
theorem w_X9_goesOn_70 {g : zG} {lv : Nat} {out : zO} (σ : zM) {r : zO} (h : f_X9_goesOn_70  σ = some r) (hk : (fun o : zO => o = out) r) : Gj g MX9_goesOn (lv) 70 [] [] σ out := by
  revert h
  unfold f_X9_goesOn_70
  refine zst_ (gj_iconst (pc := 70) dX9_goesOn_70 (by decide)) ?_
  exact fun h => w_X9_goesOn_71 0 σ h hk
noncomputable def f_X9_goesOn (x0 x1 x2 : Int) (σ : zM) : Option zO :=
  (zgf σ 958 x0).bind fun v1 =>
  (zgf σ 926 x0).bind fun v2 =>
  (zga σ 101 v2 x2).bind fun v3 =>
  (zpa σ 101 v1 x1 v3).bind fun σ4 =>
  (zgf σ4 919 x0).bind fun v5 =>
  (zga σ4 101 v5 x2).bind fun v6 =>
  if v6 < 0 then
    f_X9_goesOn_70 σ4
  else
    (zgf σ4 958 x0).bind fun v7 =>
    (zga σ4 101 v7 x1).bind fun v8 =>
    (zgf σ4 931 x0).bind fun v9 =>
    (zga σ4 101 v9 x1).bind fun v10 =>
    if v10 ≤ v8 then
      f_X9_goesOn_70 σ4
    else
      (zgf σ4 919 x0).bind fun v11 =>
      (zgf σ4 934 x0).bind fun v12 =>
      (zgf σ4 958 x0).bind fun v13 =>
      (zga σ4 101 v13 x1).bind fun v14 =>
      (zga σ4 101 v12 (zadd (zmul 31 x1) v14)).bind fun v15 =>
      (zga σ4 101 v11 v15).bind fun v16 =>
      (zgf σ4 919 x0).bind fun v17 =>
      (zga σ4 101 v17 x2).bind fun v18 =>
      if v16 ≠ v18 then
        f_X9_goesOn_70 σ4
      else
        f_X9_goesOn_71 1 σ4
theorem c_X9_goesOn {g : zG} {lv : Nat} {x0 x1 x2 : Int} {σ : zM} {out : zO} (h : f_X9_goesOn x0 x1 x2 σ = some out) : Cj g (lv) MX9_goesOn [zr x0, zi x1, zi x2] σ out := by
  refine cj_go (ls := [(0, zr x0), (1, zi x1), (2, zi x2)]) (by decide) (Nat.le_of_ble_eq_true rfl) rfl (zgen h (fun r hk => ?_))
  unfold f_X9_goesOn
  refine zst_ (gj_aload_n 0 (pc := 0) dX9_goesOn_0 rfl) ?_
  refine gb_get (pc := 1) fl958 dX9_goesOn_1 q1940 (Or.inl rfl) (fun v1 => ?_)
  refine zst_ (gj_iload_n 1 (pc := 4) dX9_goesOn_4 rfl) ?_
  refine zst_ (gj_aload_n 0 (pc := 5) dX9_goesOn_5 rfl) ?_
  refine gb_get (pc := 6) fl926 dX9_goesOn_6 q1908 (Or.inl rfl) (fun v2 => ?_)
  refine zst_ (gj_iload_n 2 (pc := 9) dX9_goesOn_9 rfl) ?_
  refine gb_iald (pc := 10) dX9_goesOn_10 (fun v3 => ?_)
  refine gb_iast (pc := 11) dX9_goesOn_11 (fun σ4 => ?_)
  refine zst_ (gj_aload_n 0 (pc := 12) dX9_goesOn_12 rfl) ?_
  refine gb_get (pc := 13) fl919 dX9_goesOn_13 q1901 (Or.inl rfl) (fun v5 => ?_)
  refine zst_ (gj_iload_n 2 (pc := 16) dX9_goesOn_16 rfl) ?_
  refine gb_iald (pc := 17) dX9_goesOn_17 (fun v6 => ?_)
  refine gb_if (gj_if_lt 70 (pc := 18) dX9_goesOn_18 (by decide)) ?_ ?_
  · refine zst_ (gj_sub [] rfl) ?_
    exact fun h => w_X9_goesOn_70 σ4 h hk
  · refine zst_ (gj_aload_n 0 (pc := 21) dX9_goesOn_21 rfl) ?_
    refine gb_get (pc := 22) fl958 dX9_goesOn_22 q1940 (Or.inl rfl) (fun v7 => ?_)
    refine zst_ (gj_iload_n 1 (pc := 25) dX9_goesOn_25 rfl) ?_
    refine gb_iald (pc := 26) dX9_goesOn_26 (fun v8 => ?_)
    refine zst_ (gj_aload_n 0 (pc := 27) dX9_goesOn_27 rfl) ?_
    refine gb_get (pc := 28) fl931 dX9_goesOn_28 q1913 (Or.inl rfl) (fun v9 => ?_)
    refine zst_ (gj_iload_n 1 (pc := 31) dX9_goesOn_31 rfl) ?_
    refine gb_iald (pc := 32) dX9_goesOn_32 (fun v10 => ?_)
    refine gb_if (gj_icmp_ge 70 (pc := 33) dX9_goesOn_33 (by decide)) ?_ ?_
    · refine zst_ (gj_sub [] rfl) ?_
      exact fun h => w_X9_goesOn_70 σ4 h hk
    · refine zst_ (gj_aload_n 0 (pc := 36) dX9_goesOn_36 rfl) ?_
      refine gb_get (pc := 37) fl919 dX9_goesOn_37 q1901 (Or.inl rfl) (fun v11 => ?_)
      refine zst_ (gj_aload_n 0 (pc := 40) dX9_goesOn_40 rfl) ?_
      refine gb_get (pc := 41) fl934 dX9_goesOn_41 q1916 (Or.inl rfl) (fun v12 => ?_)
      refine zst_ (gj_bipush (pc := 44) dX9_goesOn_44 ⟨rfl, by decide⟩) ?_
      refine zst_ (gj_iload_n 1 (pc := 46) dX9_goesOn_46 rfl) ?_
      refine zst_ (gj_imul (pc := 47) dX9_goesOn_47) ?_
      refine zst_ (gj_aload_n 0 (pc := 48) dX9_goesOn_48 rfl) ?_
      refine gb_get (pc := 49) fl958 dX9_goesOn_49 q1940 (Or.inl rfl) (fun v13 => ?_)
      refine zst_ (gj_iload_n 1 (pc := 52) dX9_goesOn_52 rfl) ?_
      refine gb_iald (pc := 53) dX9_goesOn_53 (fun v14 => ?_)
      refine zst_ (gj_iadd (pc := 54) dX9_goesOn_54) ?_
      refine gb_iald (pc := 55) dX9_goesOn_55 (fun v15 => ?_)
      refine gb_iald (pc := 56) dX9_goesOn_56 (fun v16 => ?_)
      refine zst_ (gj_aload_n 0 (pc := 57) dX9_goesOn_57 rfl) ?_
      refine gb_get (pc := 58) fl919 dX9_goesOn_58 q1901 (Or.inl rfl) (fun v17 => ?_)
      refine zst_ (gj_iload_n 2 (pc := 61) dX9_goesOn_61 rfl) ?_
      refine gb_iald (pc := 62) dX9_goesOn_62 (fun v18 => ?_)
      refine gb_if (gj_icmp_ne 70 (pc := 63) dX9_goesOn_63 (by decide)) ?_ ?_
      · refine zst_ (gj_sub [] rfl) ?_
        exact fun h => w_X9_goesOn_70 σ4 h hk
      · refine zst_ (gj_iconst (pc := 66) dX9_goesOn_66 (by decide)) ?_
        refine zst_ (gj_goto 71 (pc := 67) dX9_goesOn_67 (by decide)) ?_
        refine zst_ (gj_sub [] rfl) ?_
        exact fun h => w_X9_goesOn_71 1 σ4 h hk
theorem q2283 : (Jvm.Cond.code ({ cls := "LassoFinderModel", name := "act", desc := "(II)V" } : Jvm.MethodName) prog_22_method_35_code (9 : Nat) (Option.none : Option Jvm.ClassFile.FieldType)) ∈ lw_all := lw_g (lw_at lw_m10 23 rfl) rfl
theorem q2284 : (Jvm.Cond.methodLink "LassoFinderModel" (324 : Nat) ({ cls := "LassoFinderModel", name := "goesOn", desc := "(II)Z" } : Jvm.MethodName)) ∈ lw_all := lw_g (lw_at lw_m10 24 rfl) rfl
theorem q2286 : (Jvm.Cond.instanceMethod ({ cls := "LassoFinderModel", name := "goesOn", desc := "(II)Z" } : Jvm.MethodName)) ∈ lw_all := lw_g (lw_at lw_m10 26 rfl) rfl
abbrev cX9_act : ByteArray := prog_22_method_35_code
def yX9_act : MethodName := ⟨RX9, "act", "(II)V"⟩
theorem dX9_act_0 : decode cX9_act 0 = .ok (.aload_n 0, 1) := by decide +kernel
theorem dX9_act_1 : decode cX9_act 1 = .ok (.getfield 69, 3) := by decide +kernel
theorem dX9_act_4 : decode cX9_act 4 = .ok (.iload_n 1, 1) := by decide +kernel
theorem dX9_act_5 : decode cX9_act 5 = .ok (.iaload, 1) := by decide +kernel
theorem dX9_act_6 : decode cX9_act 6 = .ok (.istore_n 3, 1) := by decide +kernel
theorem dX9_act_7 : decode cX9_act 7 = .ok (.aload_n 0, 1) := by decide +kernel
theorem dX9_act_8 : decode cX9_act 8 = .ok (.getfield 32, 3) := by decide +kernel
theorem dX9_act_11 : decode cX9_act 11 = .ok (.iload_n 3, 1) := by decide +kernel
theorem dX9_act_12 : decode cX9_act 12 = .ok (.iaload, 1) := by decide +kernel
theorem dX9_act_13 : decode cX9_act 13 = .ok (.istore 4, 2) := by decide +kernel
theorem dX9_act_15 : decode cX9_act 15 = .ok (.aload_n 0, 1) := by decide +kernel
theorem dX9_act_16 : decode cX9_act 16 = .ok (.getfield 51, 3) := by decide +kernel
theorem dX9_act_19 : decode cX9_act 19 = .ok (.iload_n 3, 1) := by decide +kernel
theorem dX9_act_20 : decode cX9_act 20 = .ok (.iaload, 1) := by decide +kernel
theorem dX9_act_21 : decode cX9_act 21 = .ok (.istore 5, 2) := by decide +kernel
theorem dX9_act_23 : decode cX9_act 23 = .ok (.aload_n 0, 1) := by decide +kernel
theorem dX9_act_24 : decode cX9_act 24 = .ok (.getfield 57, 3) := by decide +kernel
theorem dX9_act_27 : decode cX9_act 27 = .ok (.iload_n 3, 1) := by decide +kernel
theorem dX9_act_28 : decode cX9_act 28 = .ok (.iaload, 1) := by decide +kernel
theorem dX9_act_29 : decode cX9_act 29 = .ok (.aload_n 0, 1) := by decide +kernel
theorem dX9_act_30 : decode cX9_act 30 = .ok (.getfield 60, 3) := by decide +kernel
theorem dX9_act_33 : decode cX9_act 33 = .ok (.iload_n 3, 1) := by decide +kernel
theorem dX9_act_34 : decode cX9_act 34 = .ok (.iaload, 1) := by decide +kernel
theorem dX9_act_35 : decode cX9_act 35 = .ok (.if_icmp .ge 22, 3) := by decide +kernel
theorem dX9_act_38 : decode cX9_act 38 = .ok (.aload_n 0, 1) := by decide +kernel
theorem dX9_act_39 : decode cX9_act 39 = .ok (.aload_n 0, 1) := by decide +kernel
theorem dX9_act_40 : decode cX9_act 40 = .ok (.getfield 57, 3) := by decide +kernel
theorem dX9_act_43 : decode cX9_act 43 = .ok (.iload_n 3, 1) := by decide +kernel
theorem dX9_act_44 : decode cX9_act 44 = .ok (.iaload, 1) := by decide +kernel
theorem dX9_act_45 : decode cX9_act 45 = .ok (.aload_n 0, 1) := by decide +kernel
theorem dX9_act_46 : decode cX9_act 46 = .ok (.getfield 60, 3) := by decide +kernel
theorem dX9_act_49 : decode cX9_act 49 = .ok (.iload_n 3, 1) := by decide +kernel
theorem dX9_act_50 : decode cX9_act 50 = .ok (.iaload, 1) := by decide +kernel
theorem dX9_act_51 : decode cX9_act 51 = .ok (.invokevirtual 314, 3) := by decide +kernel
theorem dX9_act_54 : decode cX9_act 54 = .ok (.goto 4, 3) := by decide +kernel
theorem dX9_act_57 : decode cX9_act 57 = .ok (.iconst 0, 1) := by decide +kernel
theorem dX9_act_58 : decode cX9_act 58 = .ok (.istore 6, 2) := by decide +kernel
theorem dX9_act_60 : decode cX9_act 60 = .ok (.aload_n 0, 1) := by decide +kernel
theorem dX9_act_61 : decode cX9_act 61 = .ok (.getfield 29, 3) := by decide +kernel
theorem dX9_act_64 : decode cX9_act 64 = .ok (.iload_n 3, 1) := by decide +kernel
theorem dX9_act_65 : decode cX9_act 65 = .ok (.iaload, 1) := by decide +kernel
theorem dX9_act_66 : decode cX9_act 66 = .ok (.ifCond .ne 15, 3) := by decide +kernel
theorem dX9_act_69 : decode cX9_act 69 = .ok (.aload_n 0, 1) := by decide +kernel
theorem dX9_act_70 : decode cX9_act 70 = .ok (.getfield 130, 3) := by decide +kernel
theorem dX9_act_73 : decode cX9_act 73 = .ok (.iload 5, 2) := by decide +kernel
theorem dX9_act_75 : decode cX9_act 75 = .ok (.iload 6, 2) := by decide +kernel
theorem dX9_act_77 : decode cX9_act 77 = .ok (.iastore, 1) := by decide +kernel
theorem dX9_act_78 : decode cX9_act 78 = .ok (.goto 163, 3) := by decide +kernel
theorem dX9_act_81 : decode cX9_act 81 = .ok (.aload_n 0, 1) := by decide +kernel
theorem dX9_act_82 : decode cX9_act 82 = .ok (.getfield 29, 3) := by decide +kernel
theorem dX9_act_85 : decode cX9_act 85 = .ok (.iload_n 3, 1) := by decide +kernel
theorem dX9_act_86 : decode cX9_act 86 = .ok (.iaload, 1) := by decide +kernel
theorem dX9_act_87 : decode cX9_act 87 = .ok (.iconst 2, 1) := by decide +kernel
theorem dX9_act_88 : decode cX9_act 88 = .ok (.if_icmp .ne 28, 3) := by decide +kernel
theorem dX9_act_91 : decode cX9_act 91 = .ok (.iload_n 2, 1) := by decide +kernel
theorem dX9_act_92 : decode cX9_act 92 = .ok (.ifCond .lt 24, 3) := by decide +kernel
theorem dX9_act_95 : decode cX9_act 95 = .ok (.aload_n 0, 1) := by decide +kernel
theorem dX9_act_96 : decode cX9_act 96 = .ok (.getfield 130, 3) := by decide +kernel
theorem dX9_act_99 : decode cX9_act 99 = .ok (.aload_n 0, 1) := by decide +kernel
theorem dX9_act_100 : decode cX9_act 100 = .ok (.getfield 54, 3) := by decide +kernel
theorem dX9_act_103 : decode cX9_act 103 = .ok (.aload_n 0, 1) := by decide +kernel
theorem dX9_act_104 : decode cX9_act 104 = .ok (.getfield 69, 3) := by decide +kernel
theorem dX9_act_107 : decode cX9_act 107 = .ok (.iload_n 2, 1) := by decide +kernel
theorem dX9_act_108 : decode cX9_act 108 = .ok (.iaload, 1) := by decide +kernel
theorem dX9_act_109 : decode cX9_act 109 = .ok (.iaload, 1) := by decide +kernel
theorem dX9_act_110 : decode cX9_act 110 = .ok (.iload 6, 2) := by decide +kernel
theorem dX9_act_112 : decode cX9_act 112 = .ok (.iastore, 1) := by decide +kernel
theorem dX9_act_113 : decode cX9_act 113 = .ok (.goto 128, 3) := by decide +kernel
theorem dX9_act_116 : decode cX9_act 116 = .ok (.aload_n 0, 1) := by decide +kernel
theorem dX9_act_117 : decode cX9_act 117 = .ok (.getfield 29, 3) := by decide +kernel
theorem dX9_act_120 : decode cX9_act 120 = .ok (.iload_n 3, 1) := by decide +kernel
theorem dX9_act_121 : decode cX9_act 121 = .ok (.iaload, 1) := by decide +kernel
theorem dX9_act_122 : decode cX9_act 122 = .ok (.iconst 2, 1) := by decide +kernel
theorem dX9_act_123 : decode cX9_act 123 = .ok (.if_icmp .ne 36, 3) := by decide +kernel
theorem dX9_act_126 : decode cX9_act 126 = .ok (.aload_n 0, 1) := by decide +kernel
theorem dX9_act_127 : decode cX9_act 127 = .ok (.getfield 136, 3) := by decide +kernel
theorem dX9_act_130 : decode cX9_act 130 = .ok (.iconst 3, 1) := by decide +kernel
theorem dX9_act_131 : decode cX9_act 131 = .ok (.iload 5, 2) := by decide +kernel
theorem dX9_act_133 : decode cX9_act 133 = .ok (.imul, 1) := by decide +kernel
theorem dX9_act_134 : decode cX9_act 134 = .ok (.aload_n 0, 1) := by decide +kernel
theorem dX9_act_135 : decode cX9_act 135 = .ok (.getfield 133, 3) := by decide +kernel
theorem dX9_act_138 : decode cX9_act 138 = .ok (.iload 5, 2) := by decide +kernel
theorem dX9_act_140 : decode cX9_act 140 = .ok (.iaload, 1) := by decide +kernel
theorem dX9_act_141 : decode cX9_act 141 = .ok (.iadd, 1) := by decide +kernel
theorem dX9_act_142 : decode cX9_act 142 = .ok (.iload 6, 2) := by decide +kernel
theorem dX9_act_144 : decode cX9_act 144 = .ok (.iastore, 1) := by decide +kernel
theorem dX9_act_145 : decode cX9_act 145 = .ok (.aload_n 0, 1) := by decide +kernel
theorem dX9_act_146 : decode cX9_act 146 = .ok (.getfield 133, 3) := by decide +kernel
theorem dX9_act_149 : decode cX9_act 149 = .ok (.iload 5, 2) := by decide +kernel
theorem dX9_act_151 : decode cX9_act 151 = .ok (.dup2, 1) := by decide +kernel
theorem dX9_act_152 : decode cX9_act 152 = .ok (.iaload, 1) := by decide +kernel
theorem dX9_act_153 : decode cX9_act 153 = .ok (.iconst 1, 1) := by decide +kernel
theorem dX9_act_154 : decode cX9_act 154 = .ok (.iadd, 1) := by decide +kernel
theorem dX9_act_155 : decode cX9_act 155 = .ok (.iastore, 1) := by decide +kernel
theorem dX9_act_156 : decode cX9_act 156 = .ok (.goto 85, 3) := by decide +kernel
theorem dX9_act_159 : decode cX9_act 159 = .ok (.aload_n 0, 1) := by decide +kernel
theorem dX9_act_160 : decode cX9_act 160 = .ok (.getfield 29, 3) := by decide +kernel
theorem dX9_act_163 : decode cX9_act 163 = .ok (.iload_n 3, 1) := by decide +kernel
theorem dX9_act_164 : decode cX9_act 164 = .ok (.iaload, 1) := by decide +kernel
theorem dX9_act_165 : decode cX9_act 165 = .ok (.iconst 3, 1) := by decide +kernel
theorem dX9_act_166 : decode cX9_act 166 = .ok (.if_icmp .ne 75, 3) := by decide +kernel
theorem dX9_act_169 : decode cX9_act 169 = .ok (.aload_n 0, 1) := by decide +kernel
theorem dX9_act_170 : decode cX9_act 170 = .ok (.getfield 130, 3) := by decide +kernel
theorem dX9_act_173 : decode cX9_act 173 = .ok (.aload_n 0, 1) := by decide +kernel
theorem dX9_act_174 : decode cX9_act 174 = .ok (.getfield 54, 3) := by decide +kernel
theorem dX9_act_177 : decode cX9_act 177 = .ok (.iload_n 3, 1) := by decide +kernel
theorem dX9_act_178 : decode cX9_act 178 = .ok (.iaload, 1) := by decide +kernel
theorem dX9_act_179 : decode cX9_act 179 = .ok (.aload_n 0, 1) := by decide +kernel
theorem dX9_act_180 : decode cX9_act 180 = .ok (.getfield 136, 3) := by decide +kernel
theorem dX9_act_183 : decode cX9_act 183 = .ok (.iconst 3, 1) := by decide +kernel
theorem dX9_act_184 : decode cX9_act 184 = .ok (.iload 5, 2) := by decide +kernel
theorem dX9_act_186 : decode cX9_act 186 = .ok (.imul, 1) := by decide +kernel
theorem dX9_act_187 : decode cX9_act 187 = .ok (.iaload, 1) := by decide +kernel
theorem dX9_act_188 : decode cX9_act 188 = .ok (.iastore, 1) := by decide +kernel
theorem dX9_act_189 : decode cX9_act 189 = .ok (.iconst 1, 1) := by decide +kernel
theorem dX9_act_190 : decode cX9_act 190 = .ok (.istore 7, 2) := by decide +kernel
theorem dX9_act_192 : decode cX9_act 192 = .ok (.iload 7, 2) := by decide +kernel
theorem dX9_act_194 : decode cX9_act 194 = .ok (.iconst 3, 1) := by decide +kernel
theorem dX9_act_195 : decode cX9_act 195 = .ok (.if_icmp .ge 35, 3) := by decide +kernel
theorem dX9_act_198 : decode cX9_act 198 = .ok (.aload_n 0, 1) := by decide +kernel
theorem dX9_act_199 : decode cX9_act 199 = .ok (.getfield 136, 3) := by decide +kernel
theorem dX9_act_202 : decode cX9_act 202 = .ok (.iconst 3, 1) := by decide +kernel
theorem dX9_act_203 : decode cX9_act 203 = .ok (.iload 5, 2) := by decide +kernel
theorem dX9_act_205 : decode cX9_act 205 = .ok (.imul, 1) := by decide +kernel
theorem dX9_act_206 : decode cX9_act 206 = .ok (.iload 7, 2) := by decide +kernel
theorem dX9_act_208 : decode cX9_act 208 = .ok (.iadd, 1) := by decide +kernel
theorem dX9_act_209 : decode cX9_act 209 = .ok (.iconst 1, 1) := by decide +kernel
theorem dX9_act_210 : decode cX9_act 210 = .ok (.isub, 1) := by decide +kernel
theorem dX9_act_211 : decode cX9_act 211 = .ok (.aload_n 0, 1) := by decide +kernel
theorem dX9_act_212 : decode cX9_act 212 = .ok (.getfield 136, 3) := by decide +kernel
theorem dX9_act_215 : decode cX9_act 215 = .ok (.iconst 3, 1) := by decide +kernel
theorem dX9_act_216 : decode cX9_act 216 = .ok (.iload 5, 2) := by decide +kernel
theorem dX9_act_218 : decode cX9_act 218 = .ok (.imul, 1) := by decide +kernel
theorem dX9_act_219 : decode cX9_act 219 = .ok (.iload 7, 2) := by decide +kernel
theorem dX9_act_221 : decode cX9_act 221 = .ok (.iadd, 1) := by decide +kernel
theorem dX9_act_222 : decode cX9_act 222 = .ok (.iaload, 1) := by decide +kernel
theorem dX9_act_223 : decode cX9_act 223 = .ok (.iastore, 1) := by decide +kernel
theorem dX9_act_224 : decode cX9_act 224 = .ok (.iinc 7 1, 3) := by decide +kernel
theorem dX9_act_227 : decode cX9_act 227 = .ok (.goto (-35), 3) := by decide +kernel
theorem dX9_act_230 : decode cX9_act 230 = .ok (.aload_n 0, 1) := by decide +kernel
theorem dX9_act_231 : decode cX9_act 231 = .ok (.getfield 133, 3) := by decide +kernel
theorem dX9_act_234 : decode cX9_act 234 = .ok (.iload 5, 2) := by decide +kernel
theorem dX9_act_236 : decode cX9_act 236 = .ok (.dup2, 1) := by decide +kernel
theorem dX9_act_237 : decode cX9_act 237 = .ok (.iaload, 1) := by decide +kernel
theorem dX9_act_238 : decode cX9_act 238 = .ok (.iconst 1, 1) := by decide +kernel
theorem dX9_act_239 : decode cX9_act 239 = .ok (.isub, 1) := by decide +kernel
theorem dX9_act_240 : decode cX9_act 240 = .ok (.iastore, 1) := by decide +kernel
theorem dX9_act_241 : decode cX9_act 241 = .ok (.aload_n 0, 1) := by decide +kernel
theorem dX9_act_242 : decode cX9_act 242 = .ok (.aload_n 0, 1) := by decide +kernel
theorem dX9_act_243 : decode cX9_act 243 = .ok (.iload 4, 2) := by decide +kernel
theorem dX9_act_245 : decode cX9_act 245 = .ok (.iload_n 3, 1) := by decide +kernel
theorem dX9_act_246 : decode cX9_act 246 = .ok (.invokevirtual 324, 3) := by decide +kernel
theorem dX9_act_249 : decode cX9_act 249 = .ok (.ifCond .eq 8, 3) := by decide +kernel
theorem dX9_act_252 : decode cX9_act 252 = .ok (.iload 4, 2) := by decide +kernel
theorem dX9_act_254 : decode cX9_act 254 = .ok (.goto 4, 3) := by decide +kernel
theorem dX9_act_257 : decode cX9_act 257 = .ok (.iconst (-1), 1) := by decide +kernel
theorem dX9_act_258 : decode cX9_act 258 = .ok (.putfield 301, 3) := by decide +kernel
theorem dX9_act_261 : decode cX9_act 261 = .ok (.iload_n 2, 1) := by decide +kernel
theorem dX9_act_262 : decode cX9_act 262 = .ok (.ifCond .lt 48, 3) := by decide +kernel
theorem dX9_act_265 : decode cX9_act 265 = .ok (.aload_n 0, 1) := by decide +kernel
theorem dX9_act_266 : decode cX9_act 266 = .ok (.getfield 32, 3) := by decide +kernel
theorem dX9_act_269 : decode cX9_act 269 = .ok (.aload_n 0, 1) := by decide +kernel
theorem dX9_act_270 : decode cX9_act 270 = .ok (.getfield 69, 3) := by decide +kernel
theorem dX9_act_273 : decode cX9_act 273 = .ok (.iload_n 2, 1) := by decide +kernel
theorem dX9_act_274 : decode cX9_act 274 = .ok (.iaload, 1) := by decide +kernel
theorem dX9_act_275 : decode cX9_act 275 = .ok (.iaload, 1) := by decide +kernel
theorem dX9_act_276 : decode cX9_act 276 = .ok (.istore 7, 2) := by decide +kernel
theorem dX9_act_278 : decode cX9_act 278 = .ok (.aload_n 0, 1) := by decide +kernel
theorem dX9_act_279 : decode cX9_act 279 = .ok (.iload 7, 2) := by decide +kernel
theorem dX9_act_281 : decode cX9_act 281 = .ok (.aload_n 0, 1) := by decide +kernel
theorem dX9_act_282 : decode cX9_act 282 = .ok (.getfield 69, 3) := by decide +kernel
theorem dX9_act_285 : decode cX9_act 285 = .ok (.iload_n 2, 1) := by decide +kernel
theorem dX9_act_286 : decode cX9_act 286 = .ok (.iaload, 1) := by decide +kernel
theorem dX9_act_287 : decode cX9_act 287 = .ok (.invokevirtual 324, 3) := by decide +kernel
theorem dX9_act_290 : decode cX9_act 290 = .ok (.istore 8, 2) := by decide +kernel
theorem dX9_act_292 : decode cX9_act 292 = .ok (.aload_n 0, 1) := by decide +kernel
theorem dX9_act_293 : decode cX9_act 293 = .ok (.iload 8, 2) := by decide +kernel
theorem dX9_act_295 : decode cX9_act 295 = .ok (.ifCond .eq 8, 3) := by decide +kernel
theorem dX9_act_298 : decode cX9_act 298 = .ok (.iload 7, 2) := by decide +kernel
theorem dX9_act_300 : decode cX9_act 300 = .ok (.goto 7, 3) := by decide +kernel
theorem dX9_act_303 : decode cX9_act 303 = .ok (.aload_n 0, 1) := by decide +kernel
theorem dX9_act_304 : decode cX9_act 304 = .ok (.getfield 301, 3) := by decide +kernel
theorem dX9_act_307 : decode cX9_act 307 = .ok (.putfield 301, 3) := by decide +kernel
theorem dX9_act_310 : decode cX9_act 310 = .ok (.return_, 1) := by decide +kernel
abbrev MX9_act : zT := (yX9_act, cX9_act, 9, (Option.none : Option Jvm.ClassFile.FieldType), [])
theorem plX9_act : zplain MX9_act 2 ∧ (zcodeW MX9_act ∈ lw_all ∧ Cond.initialized MX9_act.1.cls ∈ lw_all) := ⟨⟨by decide +kernel, by decide +kernel⟩, q2283, q127⟩
noncomputable def f_X9_act_310 (σ : zM) : Option zO :=
  some (0, ((3, 0) : zV), σ)
theorem w_X9_act_310 {g : zG} {lv : Nat} {out : zO} (σ : zM) {r : zO} (h : f_X9_act_310  σ = some r) (hk : (fun o : zO => o = out) r) : Gj g MX9_act (lv + 1) 310 [] [] σ out := by
  revert h
  unfold f_X9_act_310
  intro h
  cases h
  have hk : (0, ((3, 0) : zV), σ) = out := hk
  subst hk
  exact gj_vret (pc := 310) dX9_act_310 rfl
noncomputable def f_X9_act_307 (t0 t1 : Int) (σ : zM) : Option zO :=
  (zpf σ 959 t1 t0).bind fun σ1 =>
  f_X9_act_310 σ1
theorem w_X9_act_307 {g : zG} {lv : Nat} {out : zO} (t0 t1 : Int) (σ : zM) {r : zO} (h : f_X9_act_307 t0 t1 σ = some r) (hk : (fun o : zO => o = out) r) : Gj g MX9_act (lv + 1) 307 [] [zi t0, zr t1] σ out := by
  revert h
  unfold f_X9_act_307
  refine gb_put (pc := 307) fl959 fr959 dX9_act_307 q1941 (Or.inl rfl) (fun σ1 => ?_)
  exact fun h => w_X9_act_310 σ1 h hk
noncomputable def f_X9_act_258 (x0 x2 t0 t1 : Int) (σ : zM) : Option zO :=
  (zpf σ 959 t1 t0).bind fun σ1 =>
  if x2 < 0 then
    f_X9_act_310 σ1
  else
    (zgf σ1 915 x0).bind fun v2 =>
    (zgf σ1 928 x0).bind fun v3 =>
    (zga σ1 101 v3 x2).bind fun v4 =>
    (zga σ1 101 v2 v4).bind fun v5 =>
    (zgf σ1 928 x0).bind fun v6 =>
    (zga σ1 101 v6 x2).bind fun v7 =>
    zgd (zis σ1 10 x0) <|
    zci (f_X9_goesOn x0 v5 v7 σ1) fun v8 σ9 =>
    if v8 = 0 then
      (zgf σ9 959 x0).bind fun v10 =>
      f_X9_act_307 v10 x0 σ9
    else
      f_X9_act_307 v5 x0 σ9
theorem w_X9_act_258 {g : zG} {lv : Nat} {out : zO} (x0 x2 t0 t1 : Int) (σ : zM) {r : zO} (h : f_X9_act_258 x0 x2 t0 t1 σ = some r) (hk : (fun o : zO => o = out) r) : Gj g MX9_act (lv + 1) 258 [(0, zr x0), (2, zi x2)] [zi t0, zr t1] σ out := by
  revert h
  unfold f_X9_act_258
  refine gb_put (pc := 258) fl959 fr959 dX9_act_258 q1941 (Or.inl rfl) (fun σ1 => ?_)
  refine zst_ (gj_iload_n 1 (pc := 261) dX9_act_261 rfl) ?_
  refine gb_if (gj_if_lt 310 (pc := 262) dX9_act_262 (by decide)) ?_ ?_
  · refine zst_ (gj_sub [] rfl) ?_
    exact fun h => w_X9_act_310 σ1 h hk
  · refine zst_ (gj_aload_n 0 (pc := 265) dX9_act_265 rfl) ?_
    refine gb_get (pc := 266) fl915 dX9_act_266 q1897 (Or.inl rfl) (fun v2 => ?_)
    refine zst_ (gj_aload_n 0 (pc := 269) dX9_act_269 rfl) ?_
    refine gb_get (pc := 270) fl928 dX9_act_270 q1910 (Or.inl rfl) (fun v3 => ?_)
    refine zst_ (gj_iload_n 1 (pc := 273) dX9_act_273 rfl) ?_
    refine gb_iald (pc := 274) dX9_act_274 (fun v4 => ?_)
    refine gb_iald (pc := 275) dX9_act_275 (fun v5 => ?_)
    refine zst_ (gj_istore (pc := 276) (ls' := [(7, zi v5), (0, zr x0), (2, zi x2)]) dX9_act_276 (by decide) rfl) ?_
    refine zst_ (gj_aload_n 1 (pc := 278) dX9_act_278 rfl) ?_
    refine zst_ (gj_iload 0 (pc := 279) dX9_act_279 rfl) ?_
    refine zst_ (gj_aload_n 1 (pc := 281) dX9_act_281 rfl) ?_
    refine gb_get (pc := 282) fl928 dX9_act_282 q1910 (Or.inl rfl) (fun v6 => ?_)
    refine zst_ (gj_iload_n 2 (pc := 285) dX9_act_285 rfl) ?_
    refine gb_iald (pc := 286) dX9_act_286 (fun v7 => ?_)
    refine gb_gd (fun hb => ?_)
    refine gb_callI (pc := 287) (as := [zr x0, zi v5, zi v7]) (rest := []) (zCl.of (zLk_V (M := MX9_act) (ci := 9) (r := (RX9, TX9, 84)) plX9_goesOn.1 rfl rfl (zisE hb).1 (zisE hb).2 dX9_act_287 q2284 q2286 qs77 q2287) plX9_goesOn (Nat.le_of_ble_eq_true rfl) (fun h => c_X9_goesOn h)) (fun v8 σ9 => ?_)
    refine zst_ (gj_istore (pc := 290) (ls' := [(8, zi v8), (7, zi v5), (0, zr x0), (2, zi x2)]) dX9_act_290 (by decide) rfl) ?_
    refine zst_ (gj_aload_n 2 (pc := 292) dX9_act_292 rfl) ?_
    refine zst_ (gj_iload 0 (pc := 293) dX9_act_293 rfl) ?_
    refine gb_if (gj_if_eq 303 (pc := 295) dX9_act_295 (by decide)) ?_ ?_
    · refine zst_ (gj_aload_n 2 (pc := 303) dX9_act_303 rfl) ?_
      refine gb_get (pc := 304) fl959 dX9_act_304 q1941 (Or.inl rfl) (fun v10 => ?_)
      refine zst_ (gj_sub [] rfl) ?_
      exact fun h => w_X9_act_307 v10 x0 σ9 h hk
    · refine zst_ (gj_iload 1 (pc := 298) dX9_act_298 rfl) ?_
      refine zst_ (gj_goto 307 (pc := 300) dX9_act_300 (by decide)) ?_
      refine zst_ (gj_sub [] rfl) ?_
      exact fun h => w_X9_act_307 v5 x0 σ9 h hk
noncomputable def f_X9_act_241 (x0 x2 x3 x4 : Int) (σ : zM) : Option zO :=
  zgd (zis σ 10 x0) <|
  zci (f_X9_goesOn x0 x4 x3 σ) fun v1 σ2 =>
  if v1 = 0 then
    f_X9_act_258 x0 x2 (-1) x0 σ2
  else
    f_X9_act_258 x0 x2 x4 x0 σ2
theorem w_X9_act_241 {g : zG} {lv : Nat} {out : zO} (x0 x2 x3 x4 : Int) (σ : zM) {r : zO} (h : f_X9_act_241 x0 x2 x3 x4 σ = some r) (hk : (fun o : zO => o = out) r) : Gj g MX9_act (lv + 1) 241 [(0, zr x0), (2, zi x2), (3, zi x3), (4, zi x4)] [] σ out := by
  revert h
  unfold f_X9_act_241
  refine zst_ (gj_aload_n 0 (pc := 241) dX9_act_241 rfl) ?_
  refine zst_ (gj_aload_n 0 (pc := 242) dX9_act_242 rfl) ?_
  refine zst_ (gj_iload 3 (pc := 243) dX9_act_243 rfl) ?_
  refine zst_ (gj_iload_n 2 (pc := 245) dX9_act_245 rfl) ?_
  refine gb_gd (fun hb => ?_)
  refine gb_callI (pc := 246) (as := [zr x0, zi x4, zi x3]) (rest := [zr x0]) (zCl.of (zLk_V (M := MX9_act) (ci := 9) (r := (RX9, TX9, 84)) plX9_goesOn.1 rfl rfl (zisE hb).1 (zisE hb).2 dX9_act_246 q2284 q2286 qs77 q2287) plX9_goesOn (Nat.le_of_ble_eq_true rfl) (fun h => c_X9_goesOn h)) (fun v1 σ2 => ?_)
  refine gb_if (gj_if_eq 257 (pc := 249) dX9_act_249 (by decide)) ?_ ?_
  · refine zst_ (gj_iconst (pc := 257) dX9_act_257 (by decide)) ?_
    refine zst_ (gj_sub [0, 1] rfl) ?_
    exact fun h => w_X9_act_258 x0 x2 (-1) x0 σ2 h hk
  · refine zst_ (gj_iload 3 (pc := 252) dX9_act_252 rfl) ?_
    refine zst_ (gj_goto 258 (pc := 254) dX9_act_254 (by decide)) ?_
    refine zst_ (gj_sub [0, 1] rfl) ?_
    exact fun h => w_X9_act_258 x0 x2 x4 x0 σ2 h hk
noncomputable def f_X9_act_230 (x0 x2 x3 x4 x5 : Int) (σ : zM) : Option zO :=
  (zgf σ 956 x0).bind fun v1 =>
  (zga σ 101 v1 x5).bind fun v2 =>
  (zpa σ 101 v1 x5 (zsub v2 1)).bind fun σ3 =>
  f_X9_act_241 x0 x2 x3 x4 σ3
theorem w_X9_act_230 {g : zG} {lv : Nat} {out : zO} (x0 x2 x3 x4 x5 : Int) (σ : zM) {r : zO} (h : f_X9_act_230 x0 x2 x3 x4 x5 σ = some r) (hk : (fun o : zO => o = out) r) : Gj g MX9_act (lv + 1) 230 [(0, zr x0), (2, zi x2), (3, zi x3), (4, zi x4), (5, zi x5)] [] σ out := by
  revert h
  unfold f_X9_act_230
  refine zst_ (gj_aload_n 0 (pc := 230) dX9_act_230 rfl) ?_
  refine gb_get (pc := 231) fl956 dX9_act_231 q1938 (Or.inl rfl) (fun v1 => ?_)
  refine zst_ (gj_iload 4 (pc := 234) dX9_act_234 rfl) ?_
  refine zst_ (gj_dup2 (pc := 236) dX9_act_236 rfl rfl) ?_
  refine gb_iald (pc := 237) dX9_act_237 (fun v2 => ?_)
  refine zst_ (gj_iconst (pc := 238) dX9_act_238 (by decide)) ?_
  refine zst_ (gj_isub (pc := 239) dX9_act_239) ?_
  refine gb_iast (pc := 240) dX9_act_240 (fun σ3 => ?_)
  refine zst_ (gj_sub [0, 1, 2, 3] rfl) ?_
  exact fun h => w_X9_act_241 x0 x2 x3 x4 σ3 h hk
noncomputable def f_X9_act_192_b (x0 x2 x3 x4 x5 x7 : Int) (σ : zM) : Option ((Int × zM) ⊕ zO) :=
  if 3 ≤ x7 then
    (f_X9_act_230 x0 x2 x3 x4 x5 σ).map (fun r => (.inr r))
  else
    (zgf σ 957 x0).bind fun v1 =>
    (zgf σ 957 x0).bind fun v2 =>
    (zga σ 101 v2 (zadd (zmul 3 x5) x7)).bind fun v3 =>
    (zpa σ 101 v1 (zsub (zadd (zmul 3 x5) x7) 1) v3).bind fun σ4 =>
    zlet (zadd x7 1) fun y5 =>
    some (.inl (y5, σ4))
noncomputable def f_X9_act_192 (x0 x2 x3 x4 x5 x7 : Int) (σ : zM) : Option zO :=
  zloop (fun s : Int × zM => f_X9_act_192_b x0 x2 x3 x4 x5 s.1 s.2) (x7, σ)
theorem w_X9_act_192_b {g : zG} {lv : Nat} {out : zO} (x0 x2 x3 x4 x5 x7 : Int) (σ : zM) {r : ((Int × zM) ⊕ zO)} (h : f_X9_act_192_b x0 x2 x3 x4 x5 x7 σ = some r) (hk : (zKL (fun s : Int × zM => Gj g MX9_act (lv + 1) 192 [(0, zr x0), (2, zi x2), (3, zi x3), (4, zi x4), (5, zi x5), (7, zi s.1)] [] s.2 out) (fun o : zO => o = out)) r) : Gj g MX9_act (lv + 1) 192 [(0, zr x0), (2, zi x2), (3, zi x3), (4, zi x4), (5, zi x5), (7, zi x7)] [] σ out := by
  revert h
  unfold f_X9_act_192_b
  refine zst_ (gj_iload 5 (pc := 192) dX9_act_192 rfl) ?_
  refine zst_ (gj_iconst (pc := 194) dX9_act_194 (by decide)) ?_
  refine gb_if (gj_icmp_ge 230 (pc := 195) dX9_act_195 (by decide)) ?_ ?_
  · refine zst_ (gj_sub [0, 1, 2, 3, 4] rfl) ?_
    intro h
    obtain ⟨r0, h0, rfl⟩ := zmE h
    exact w_X9_act_230 x0 x2 x3 x4 x5 σ h0 hk
  · refine zst_ (gj_aload_n 0 (pc := 198) dX9_act_198 rfl) ?_
    refine gb_get (pc := 199) fl957 dX9_act_199 q1939 (Or.inl rfl) (fun v1 => ?_)
    refine zst_ (gj_iconst (pc := 202) dX9_act_202 (by decide)) ?_
    refine zst_ (gj_iload 4 (pc := 203) dX9_act_203 rfl) ?_
    refine zst_ (gj_imul (pc := 205) dX9_act_205) ?_
    refine zst_ (gj_iload 5 (pc := 206) dX9_act_206 rfl) ?_
    refine zst_ (gj_iadd (pc := 208) dX9_act_208) ?_
    refine zst_ (gj_iconst (pc := 209) dX9_act_209 (by decide)) ?_
    refine zst_ (gj_isub (pc := 210) dX9_act_210) ?_
    refine zst_ (gj_aload_n 0 (pc := 211) dX9_act_211 rfl) ?_
    refine gb_get (pc := 212) fl957 dX9_act_212 q1939 (Or.inl rfl) (fun v2 => ?_)
    refine zst_ (gj_iconst (pc := 215) dX9_act_215 (by decide)) ?_
    refine zst_ (gj_iload 4 (pc := 216) dX9_act_216 rfl) ?_
    refine zst_ (gj_imul (pc := 218) dX9_act_218) ?_
    refine zst_ (gj_iload 5 (pc := 219) dX9_act_219 rfl) ?_
    refine zst_ (gj_iadd (pc := 221) dX9_act_221) ?_
    refine gb_iald (pc := 222) dX9_act_222 (fun v3 => ?_)
    refine gb_iast (pc := 223) dX9_act_223 (fun σ4 => ?_)
    refine gb_iinc (pc := 224) 5 (fun y5 => [(7, zi y5), (0, zr x0), (2, zi x2), (3, zi x3), (4, zi x4), (5, zi x5)]) dX9_act_224 rfl (by decide) (fun _ => rfl) (fun y5 => ?_)
    refine zst_ (gj_goto 192 (pc := 227) dX9_act_227 (by decide)) ?_
    refine zst_ (gj_sub [1, 2, 3, 4, 5, 0] rfl) ?_
    intro h
    cases h
    exact hk
theorem w_X9_act_192 {g : zG} {lv : Nat} {out : zO} (x0 x2 x3 x4 x5 x7 : Int) (σ : zM) {r : zO} (h : f_X9_act_192 x0 x2 x3 x4 x5 x7 σ = some r) (hk : (fun o : zO => o = out) r) : Gj g MX9_act (lv + 1) 192 [(0, zr x0), (2, zi x2), (3, zi x3), (4, zi x4), (5, zi x5), (7, zi x7)] [] σ out :=
  gj_loop (P := (fun s : Int × zM => Gj g MX9_act (lv + 1) 192 [(0, zr x0), (2, zi x2), (3, zi x3), (4, zi x4), (5, zi x5), (7, zi s.1)] [] s.2 out)) (fun s x hb hx => w_X9_act_192_b x0 x2 x3 x4 x5 s.1 s.2 hb hx) h hk
noncomputable def f_X9_act_116 (x0 x2 x3 x4 x5 x6 : Int) (σ : zM) : Option zO :=
  (zgf σ 914 x0).bind fun v1 =>
  (zga σ 101 v1 x3).bind fun v2 =>
  if v2 ≠ 2 then
    (zgf σ 914 x0).bind fun v3 =>
    (zga σ 101 v3 x3).bind fun v4 =>
    if v4 ≠ 3 then
      f_X9_act_241 x0 x2 x3 x4 σ
    else
      (zgf σ 955 x0).bind fun v5 =>
      (zgf σ 922 x0).bind fun v6 =>
      (zga σ 101 v6 x3).bind fun v7 =>
      (zgf σ 957 x0).bind fun v8 =>
      (zga σ 101 v8 (zmul 3 x5)).bind fun v9 =>
      (zpa σ 101 v5 v7 v9).bind fun σ10 =>
      f_X9_act_192 x0 x2 x3 x4 x5 1 σ10
  else
    (zgf σ 957 x0).bind fun v11 =>
    (zgf σ 956 x0).bind fun v12 =>
    (zga σ 101 v12 x5).bind fun v13 =>
    (zpa σ 101 v11 (zadd (zmul 3 x5) v13) x6).bind fun σ14 =>
    (zgf σ14 956 x0).bind fun v15 =>
    (zga σ14 101 v15 x5).bind fun v16 =>
    (zpa σ14 101 v15 x5 (zadd v16 1)).bind fun σ17 =>
    f_X9_act_241 x0 x2 x3 x4 σ17
theorem w_X9_act_116 {g : zG} {lv : Nat} {out : zO} (x0 x2 x3 x4 x5 x6 : Int) (σ : zM) {r : zO} (h : f_X9_act_116 x0 x2 x3 x4 x5 x6 σ = some r) (hk : (fun o : zO => o = out) r) : Gj g MX9_act (lv + 1) 116 [(0, zr x0), (2, zi x2), (3, zi x3), (4, zi x4), (5, zi x5), (6, zi x6)] [] σ out := by
  revert h
  unfold f_X9_act_116
  refine zst_ (gj_aload_n 0 (pc := 116) dX9_act_116 rfl) ?_
  refine gb_get (pc := 117) fl914 dX9_act_117 q1896 (Or.inl rfl) (fun v1 => ?_)
  refine zst_ (gj_iload_n 2 (pc := 120) dX9_act_120 rfl) ?_
  refine gb_iald (pc := 121) dX9_act_121 (fun v2 => ?_)
  refine zst_ (gj_iconst (pc := 122) dX9_act_122 (by decide)) ?_
  refine gb_if (gj_icmp_ne 159 (pc := 123) dX9_act_123 (by decide)) ?_ ?_
  · refine zst_ (gj_aload_n 0 (pc := 159) dX9_act_159 rfl) ?_
    refine gb_get (pc := 160) fl914 dX9_act_160 q1896 (Or.inl rfl) (fun v3 => ?_)
    refine zst_ (gj_iload_n 2 (pc := 163) dX9_act_163 rfl) ?_
    refine gb_iald (pc := 164) dX9_act_164 (fun v4 => ?_)
    refine zst_ (gj_iconst (pc := 165) dX9_act_165 (by decide)) ?_
    refine gb_if (gj_icmp_ne 241 (pc := 166) dX9_act_166 (by decide)) ?_ ?_
    · refine zst_ (gj_sub [0, 1, 2, 3] rfl) ?_
      exact fun h => w_X9_act_241 x0 x2 x3 x4 σ h hk
    · refine zst_ (gj_aload_n 0 (pc := 169) dX9_act_169 rfl) ?_
      refine gb_get (pc := 170) fl955 dX9_act_170 q1937 (Or.inl rfl) (fun v5 => ?_)
      refine zst_ (gj_aload_n 0 (pc := 173) dX9_act_173 rfl) ?_
      refine gb_get (pc := 174) fl922 dX9_act_174 q1904 (Or.inl rfl) (fun v6 => ?_)
      refine zst_ (gj_iload_n 2 (pc := 177) dX9_act_177 rfl) ?_
      refine gb_iald (pc := 178) dX9_act_178 (fun v7 => ?_)
      refine zst_ (gj_aload_n 0 (pc := 179) dX9_act_179 rfl) ?_
      refine gb_get (pc := 180) fl957 dX9_act_180 q1939 (Or.inl rfl) (fun v8 => ?_)
      refine zst_ (gj_iconst (pc := 183) dX9_act_183 (by decide)) ?_
      refine zst_ (gj_iload 4 (pc := 184) dX9_act_184 rfl) ?_
      refine zst_ (gj_imul (pc := 186) dX9_act_186) ?_
      refine gb_iald (pc := 187) dX9_act_187 (fun v9 => ?_)
      refine gb_iast (pc := 188) dX9_act_188 (fun σ10 => ?_)
      refine zst_ (gj_iconst (pc := 189) dX9_act_189 (by decide)) ?_
      refine zst_ (gj_istore (pc := 190) (ls' := [(7, zi 1), (0, zr x0), (2, zi x2), (3, zi x3), (4, zi x4), (5, zi x5), (6, zi x6)]) dX9_act_190 (by decide) rfl) ?_
      refine zst_ (gj_sub [1, 2, 3, 4, 5, 0] rfl) ?_
      exact fun h => w_X9_act_192 x0 x2 x3 x4 x5 1 σ10 h hk
  · refine zst_ (gj_aload_n 0 (pc := 126) dX9_act_126 rfl) ?_
    refine gb_get (pc := 127) fl957 dX9_act_127 q1939 (Or.inl rfl) (fun v11 => ?_)
    refine zst_ (gj_iconst (pc := 130) dX9_act_130 (by decide)) ?_
    refine zst_ (gj_iload 4 (pc := 131) dX9_act_131 rfl) ?_
    refine zst_ (gj_imul (pc := 133) dX9_act_133) ?_
    refine zst_ (gj_aload_n 0 (pc := 134) dX9_act_134 rfl) ?_
    refine gb_get (pc := 135) fl956 dX9_act_135 q1938 (Or.inl rfl) (fun v12 => ?_)
    refine zst_ (gj_iload 4 (pc := 138) dX9_act_138 rfl) ?_
    refine gb_iald (pc := 140) dX9_act_140 (fun v13 => ?_)
    refine zst_ (gj_iadd (pc := 141) dX9_act_141) ?_
    refine zst_ (gj_iload 5 (pc := 142) dX9_act_142 rfl) ?_
    refine gb_iast (pc := 144) dX9_act_144 (fun σ14 => ?_)
    refine zst_ (gj_aload_n 0 (pc := 145) dX9_act_145 rfl) ?_
    refine gb_get (pc := 146) fl956 dX9_act_146 q1938 (Or.inl rfl) (fun v15 => ?_)
    refine zst_ (gj_iload 4 (pc := 149) dX9_act_149 rfl) ?_
    refine zst_ (gj_dup2 (pc := 151) dX9_act_151 rfl rfl) ?_
    refine gb_iald (pc := 152) dX9_act_152 (fun v16 => ?_)
    refine zst_ (gj_iconst (pc := 153) dX9_act_153 (by decide)) ?_
    refine zst_ (gj_iadd (pc := 154) dX9_act_154) ?_
    refine gb_iast (pc := 155) dX9_act_155 (fun σ17 => ?_)
    refine zst_ (gj_goto 241 (pc := 156) dX9_act_156 (by decide)) ?_
    refine zst_ (gj_sub [0, 1, 2, 3] rfl) ?_
    exact fun h => w_X9_act_241 x0 x2 x3 x4 σ17 h hk
noncomputable def f_X9_act_58 (x0 x2 x3 x4 x5 t0 : Int) (σ : zM) : Option zO :=
  (zgf σ 914 x0).bind fun v1 =>
  (zga σ 101 v1 x3).bind fun v2 =>
  if v2 ≠ 0 then
    (zgf σ 914 x0).bind fun v3 =>
    (zga σ 101 v3 x3).bind fun v4 =>
    if v4 ≠ 2 then
      f_X9_act_116 x0 x2 x3 x4 x5 t0 σ
    else
      if x2 < 0 then
        f_X9_act_116 x0 x2 x3 x4 x5 t0 σ
      else
        (zgf σ 955 x0).bind fun v5 =>
        (zgf σ 922 x0).bind fun v6 =>
        (zgf σ 928 x0).bind fun v7 =>
        (zga σ 101 v7 x2).bind fun v8 =>
        (zga σ 101 v6 v8).bind fun v9 =>
        (zpa σ 101 v5 v9 t0).bind fun σ10 =>
        f_X9_act_241 x0 x2 x3 x4 σ10
  else
    (zgf σ 955 x0).bind fun v11 =>
    (zpa σ 101 v11 x5 t0).bind fun σ12 =>
    f_X9_act_241 x0 x2 x3 x4 σ12
theorem w_X9_act_58 {g : zG} {lv : Nat} {out : zO} (x0 x2 x3 x4 x5 t0 : Int) (σ : zM) {r : zO} (h : f_X9_act_58 x0 x2 x3 x4 x5 t0 σ = some r) (hk : (fun o : zO => o = out) r) : Gj g MX9_act (lv + 1) 58 [(0, zr x0), (2, zi x2), (3, zi x3), (4, zi x4), (5, zi x5)] [zi t0] σ out := by
  revert h
  unfold f_X9_act_58
  refine zst_ (gj_istore (pc := 58) (ls' := [(6, zi t0), (0, zr x0), (2, zi x2), (3, zi x3), (4, zi x4), (5, zi x5)]) dX9_act_58 (by decide) rfl) ?_
  refine zst_ (gj_aload_n 1 (pc := 60) dX9_act_60 rfl) ?_
  refine gb_get (pc := 61) fl914 dX9_act_61 q1896 (Or.inl rfl) (fun v1 => ?_)
  refine zst_ (gj_iload_n 3 (pc := 64) dX9_act_64 rfl) ?_
  refine gb_iald (pc := 65) dX9_act_65 (fun v2 => ?_)
  refine gb_if (gj_if_ne 81 (pc := 66) dX9_act_66 (by decide)) ?_ ?_
  · refine zst_ (gj_aload_n 1 (pc := 81) dX9_act_81 rfl) ?_
    refine gb_get (pc := 82) fl914 dX9_act_82 q1896 (Or.inl rfl) (fun v3 => ?_)
    refine zst_ (gj_iload_n 3 (pc := 85) dX9_act_85 rfl) ?_
    refine gb_iald (pc := 86) dX9_act_86 (fun v4 => ?_)
    refine zst_ (gj_iconst (pc := 87) dX9_act_87 (by decide)) ?_
    refine gb_if (gj_icmp_ne 116 (pc := 88) dX9_act_88 (by decide)) ?_ ?_
    · refine zst_ (gj_sub [1, 2, 3, 4, 5, 0] rfl) ?_
      exact fun h => w_X9_act_116 x0 x2 x3 x4 x5 t0 σ h hk
    · refine zst_ (gj_iload_n 2 (pc := 91) dX9_act_91 rfl) ?_
      refine gb_if (gj_if_lt 116 (pc := 92) dX9_act_92 (by decide)) ?_ ?_
      · refine zst_ (gj_sub [1, 2, 3, 4, 5, 0] rfl) ?_
        exact fun h => w_X9_act_116 x0 x2 x3 x4 x5 t0 σ h hk
      · refine zst_ (gj_aload_n 1 (pc := 95) dX9_act_95 rfl) ?_
        refine gb_get (pc := 96) fl955 dX9_act_96 q1937 (Or.inl rfl) (fun v5 => ?_)
        refine zst_ (gj_aload_n 1 (pc := 99) dX9_act_99 rfl) ?_
        refine gb_get (pc := 100) fl922 dX9_act_100 q1904 (Or.inl rfl) (fun v6 => ?_)
        refine zst_ (gj_aload_n 1 (pc := 103) dX9_act_103 rfl) ?_
        refine gb_get (pc := 104) fl928 dX9_act_104 q1910 (Or.inl rfl) (fun v7 => ?_)
        refine zst_ (gj_iload_n 2 (pc := 107) dX9_act_107 rfl) ?_
        refine gb_iald (pc := 108) dX9_act_108 (fun v8 => ?_)
        refine gb_iald (pc := 109) dX9_act_109 (fun v9 => ?_)
        refine zst_ (gj_iload 0 (pc := 110) dX9_act_110 rfl) ?_
        refine gb_iast (pc := 112) dX9_act_112 (fun σ10 => ?_)
        refine zst_ (gj_goto 241 (pc := 113) dX9_act_113 (by decide)) ?_
        refine zst_ (gj_sub [1, 2, 3, 4] rfl) ?_
        exact fun h => w_X9_act_241 x0 x2 x3 x4 σ10 h hk
  · refine zst_ (gj_aload_n 1 (pc := 69) dX9_act_69 rfl) ?_
    refine gb_get (pc := 70) fl955 dX9_act_70 q1937 (Or.inl rfl) (fun v11 => ?_)
    refine zst_ (gj_iload 5 (pc := 73) dX9_act_73 rfl) ?_
    refine zst_ (gj_iload 0 (pc := 75) dX9_act_75 rfl) ?_
    refine gb_iast (pc := 77) dX9_act_77 (fun σ12 => ?_)
    refine zst_ (gj_goto 241 (pc := 78) dX9_act_78 (by decide)) ?_
    refine zst_ (gj_sub [1, 2, 3, 4] rfl) ?_
    exact fun h => w_X9_act_241 x0 x2 x3 x4 σ12 h hk
noncomputable def f_X9_act (x0 x1 x2 : Int) (σ : zM) : Option zO :=
  (zgf σ 928 x0).bind fun v1 =>
  (zga σ 101 v1 x1).bind fun v2 =>
  (zgf σ 915 x0).bind fun v3 =>
  (zga σ 101 v3 v2).bind fun v4 =>
  (zgf σ 921 x0).bind fun v5 =>
  (zga σ 101 v5 v2).bind fun v6 =>
  (zgf σ 923 x0).bind fun v7 =>
  (zga σ 101 v7 v2).bind fun v8 =>
  (zgf σ 924 x0).bind fun v9 =>
  (zga σ 101 v9 v2).bind fun v10 =>
  if v10 ≤ v8 then
    f_X9_act_58 x0 x2 v2 v4 v6 0 σ
  else
    (zgf σ 923 x0).bind fun v11 =>
    (zga σ 101 v11 v2).bind fun v12 =>
    (zgf σ 924 x0).bind fun v13 =>
    (zga σ 101 v13 v2).bind fun v14 =>
    zgd (zis σ 10 x0) <|
    zci (f_X9_worth x0 v12 v14 σ) fun v15 σ16 =>
    f_X9_act_58 x0 x2 v2 v4 v6 v15 σ16
theorem c_X9_act {g : zG} {lv : Nat} {x0 x1 x2 : Int} {σ : zM} {out : zO} (h : f_X9_act x0 x1 x2 σ = some out) : Cj g (lv + 1) MX9_act [zr x0, zi x1, zi x2] σ out := by
  refine cj_go (ls := [(0, zr x0), (1, zi x1), (2, zi x2)]) (by decide) (Nat.le_of_ble_eq_true rfl) rfl (zgen h (fun r hk => ?_))
  unfold f_X9_act
  refine zst_ (gj_aload_n 0 (pc := 0) dX9_act_0 rfl) ?_
  refine gb_get (pc := 1) fl928 dX9_act_1 q1910 (Or.inl rfl) (fun v1 => ?_)
  refine zst_ (gj_iload_n 1 (pc := 4) dX9_act_4 rfl) ?_
  refine gb_iald (pc := 5) dX9_act_5 (fun v2 => ?_)
  refine zst_ (gj_istore_n (pc := 6) (ls' := [(3, zi v2), (0, zr x0), (1, zi x1), (2, zi x2)]) dX9_act_6 (by decide) rfl) ?_
  refine zst_ (gj_aload_n 1 (pc := 7) dX9_act_7 rfl) ?_
  refine gb_get (pc := 8) fl915 dX9_act_8 q1897 (Or.inl rfl) (fun v3 => ?_)
  refine zst_ (gj_iload_n 0 (pc := 11) dX9_act_11 rfl) ?_
  refine gb_iald (pc := 12) dX9_act_12 (fun v4 => ?_)
  refine zst_ (gj_istore (pc := 13) (ls' := [(4, zi v4), (3, zi v2), (0, zr x0), (1, zi x1), (2, zi x2)]) dX9_act_13 (by decide) rfl) ?_
  refine zst_ (gj_aload_n 2 (pc := 15) dX9_act_15 rfl) ?_
  refine gb_get (pc := 16) fl921 dX9_act_16 q1903 (Or.inl rfl) (fun v5 => ?_)
  refine zst_ (gj_iload_n 1 (pc := 19) dX9_act_19 rfl) ?_
  refine gb_iald (pc := 20) dX9_act_20 (fun v6 => ?_)
  refine zst_ (gj_istore (pc := 21) (ls' := [(5, zi v6), (4, zi v4), (3, zi v2), (0, zr x0), (1, zi x1), (2, zi x2)]) dX9_act_21 (by decide) rfl) ?_
  refine zst_ (gj_aload_n 3 (pc := 23) dX9_act_23 rfl) ?_
  refine gb_get (pc := 24) fl923 dX9_act_24 q1905 (Or.inl rfl) (fun v7 => ?_)
  refine zst_ (gj_iload_n 2 (pc := 27) dX9_act_27 rfl) ?_
  refine gb_iald (pc := 28) dX9_act_28 (fun v8 => ?_)
  refine zst_ (gj_aload_n 3 (pc := 29) dX9_act_29 rfl) ?_
  refine gb_get (pc := 30) fl924 dX9_act_30 q1906 (Or.inl rfl) (fun v9 => ?_)
  refine zst_ (gj_iload_n 2 (pc := 33) dX9_act_33 rfl) ?_
  refine gb_iald (pc := 34) dX9_act_34 (fun v10 => ?_)
  refine gb_if (gj_icmp_ge 57 (pc := 35) dX9_act_35 (by decide)) ?_ ?_
  · refine zst_ (gj_iconst (pc := 57) dX9_act_57 (by decide)) ?_
    refine zst_ (gj_sub [3, 5, 2, 1, 0] rfl) ?_
    exact fun h => w_X9_act_58 x0 x2 v2 v4 v6 0 σ h hk
  · refine zst_ (gj_aload_n 3 (pc := 38) dX9_act_38 rfl) ?_
    refine zst_ (gj_aload_n 3 (pc := 39) dX9_act_39 rfl) ?_
    refine gb_get (pc := 40) fl923 dX9_act_40 q1905 (Or.inl rfl) (fun v11 => ?_)
    refine zst_ (gj_iload_n 2 (pc := 43) dX9_act_43 rfl) ?_
    refine gb_iald (pc := 44) dX9_act_44 (fun v12 => ?_)
    refine zst_ (gj_aload_n 3 (pc := 45) dX9_act_45 rfl) ?_
    refine gb_get (pc := 46) fl924 dX9_act_46 q1906 (Or.inl rfl) (fun v13 => ?_)
    refine zst_ (gj_iload_n 2 (pc := 49) dX9_act_49 rfl) ?_
    refine gb_iald (pc := 50) dX9_act_50 (fun v14 => ?_)
    refine gb_gd (fun hb => ?_)
    refine gb_callI (pc := 51) (as := [zr x0, zi v12, zi v14]) (rest := []) (zCl.of (zLk_V (M := MX9_act) (ci := 9) (r := (RX9, TX9, 84)) plX9_worth.1 rfl rfl (zisE hb).1 (zisE hb).2 dX9_act_51 q2268 q2270 qs73 q2271) plX9_worth (Nat.le_of_ble_eq_true rfl) (fun h => c_X9_worth h)) (fun v15 σ16 => ?_)
    refine zst_ (gj_goto 58 (pc := 54) dX9_act_54 (by decide)) ?_
    refine zst_ (gj_sub [3, 5, 2, 1, 0] rfl) ?_
    exact fun h => w_X9_act_58 x0 x2 v2 v4 v6 v15 σ16 h hk
theorem q1926 : (Jvm.Cond.fieldLink "LassoFinderModel" (345 : Nat) "LassoFinderModel" "states" "I") ∈ lw_all := lw_g (lw_at lw_m8 146 rfl) rfl
theorem q1927 : (Jvm.Cond.fieldLink "LassoFinderModel" (327 : Nat) "LassoFinderModel" "steps" "I") ∈ lw_all := lw_g (lw_at lw_m8 147 rfl) rfl
theorem q1928 : (Jvm.Cond.fieldLink "LassoFinderModel" (330 : Nat) "LassoFinderModel" "over" "Z") ∈ lw_all := lw_g (lw_at lw_m8 148 rfl) rfl
theorem q2241 : (Jvm.Cond.methodLink "LassoFinderModel" (341 : Nat) ({ cls := "LassoFinderModel", name := "packed", desc := "()J" } : Jvm.MethodName)) ∈ lw_all := lw_g (lw_at lw_m9 221 rfl) rfl
theorem q2243 : (Jvm.Cond.instanceMethod ({ cls := "LassoFinderModel", name := "packed", desc := "()J" } : Jvm.MethodName)) ∈ lw_all := lw_g (lw_at lw_m9 223 rfl) rfl
theorem q2249 : (Jvm.Cond.methodLink "LassoFinderModel" (334 : Nat) ({ cls := "LassoFinderModel", name := "unpack", desc := "(J)V" } : Jvm.MethodName)) ∈ lw_all := lw_g (lw_at lw_m9 229 rfl) rfl
theorem q2251 : (Jvm.Cond.instanceMethod ({ cls := "LassoFinderModel", name := "unpack", desc := "(J)V" } : Jvm.MethodName)) ∈ lw_all := lw_g (lw_at lw_m9 231 rfl) rfl
theorem q2279 : (Jvm.Cond.code ({ cls := "LassoFinderModel", name := "step", desc := "(III)V" } : Jvm.MethodName) prog_22_method_36_code (7 : Nat) (Option.none : Option Jvm.ClassFile.FieldType)) ∈ lw_all := lw_g (lw_at lw_m10 19 rfl) rfl
theorem q2280 : (Jvm.Cond.methodLink "LassoFinderModel" (338 : Nat) ({ cls := "LassoFinderModel", name := "act", desc := "(II)V" } : Jvm.MethodName)) ∈ lw_all := lw_g (lw_at lw_m10 20 rfl) rfl
theorem q2282 : (Jvm.Cond.instanceMethod ({ cls := "LassoFinderModel", name := "act", desc := "(II)V" } : Jvm.MethodName)) ∈ lw_all := lw_g (lw_at lw_m10 22 rfl) rfl
theorem fl944 : zfl 944 0 "LassoFinderModel" "states" "I" false := ⟨rfl, rfl, rfl⟩
theorem fr944 {g : zG} {v : Int} : zok g (0, v) → zokt g (zft 944) v := fun h => h
theorem fl945 : zfl 945 0 "LassoFinderModel" "steps" "I" false := ⟨rfl, rfl, rfl⟩
theorem fr945 {g : zG} {v : Int} : zok g (0, v) → zokt g (zft 945) v := fun h => h
theorem fl946 : zfl 946 0 "LassoFinderModel" "over" "Z" false := ⟨rfl, rfl, rfl⟩
theorem fr946 {g : zG} {v : Int} (h : z01 v = true) : zok g (0, v) → zokt g (zft 946) v := fun _ => z01E h
abbrev cX9_step : ByteArray := prog_22_method_36_code
def yX9_step : MethodName := ⟨RX9, "step", "(III)V"⟩
theorem dX9_step_0 : decode cX9_step 0 = .ok (.aload_n 0, 1) := by decide +kernel
theorem dX9_step_1 : decode cX9_step 1 = .ok (.getfield 327, 3) := by decide +kernel
theorem dX9_step_4 : decode cX9_step 4 = .ok (.sipush 400, 3) := by decide +kernel
theorem dX9_step_7 : decode cX9_step 7 = .ok (.if_icmp .ne 8, 3) := by decide +kernel
theorem dX9_step_10 : decode cX9_step 10 = .ok (.aload_n 0, 1) := by decide +kernel
theorem dX9_step_11 : decode cX9_step 11 = .ok (.iconst 1, 1) := by decide +kernel
theorem dX9_step_12 : decode cX9_step 12 = .ok (.putfield 330, 3) := by decide +kernel
theorem dX9_step_15 : decode cX9_step 15 = .ok (.aload_n 0, 1) := by decide +kernel
theorem dX9_step_16 : decode cX9_step 16 = .ok (.getfield 330, 3) := by decide +kernel
theorem dX9_step_19 : decode cX9_step 19 = .ok (.ifCond .eq 4, 3) := by decide +kernel
theorem dX9_step_22 : decode cX9_step 22 = .ok (.return_, 1) := by decide +kernel
theorem dX9_step_23 : decode cX9_step 23 = .ok (.aload_n 0, 1) := by decide +kernel
theorem dX9_step_24 : decode cX9_step 24 = .ok (.aload_n 0, 1) := by decide +kernel
theorem dX9_step_25 : decode cX9_step 25 = .ok (.getfield 106, 3) := by decide +kernel
theorem dX9_step_28 : decode cX9_step 28 = .ok (.iload_n 1, 1) := by decide +kernel
theorem dX9_step_29 : decode cX9_step 29 = .ok (.laload, 1) := by decide +kernel
theorem dX9_step_30 : decode cX9_step 30 = .ok (.invokevirtual 334, 3) := by decide +kernel
theorem dX9_step_33 : decode cX9_step 33 = .ok (.iload_n 2, 1) := by decide +kernel
theorem dX9_step_34 : decode cX9_step 34 = .ok (.ifCond .lt 9, 3) := by decide +kernel
theorem dX9_step_37 : decode cX9_step 37 = .ok (.aload_n 0, 1) := by decide +kernel
theorem dX9_step_38 : decode cX9_step 38 = .ok (.iload_n 2, 1) := by decide +kernel
theorem dX9_step_39 : decode cX9_step 39 = .ok (.iload_n 3, 1) := by decide +kernel
theorem dX9_step_40 : decode cX9_step 40 = .ok (.invokevirtual 338, 3) := by decide +kernel
theorem dX9_step_43 : decode cX9_step 43 = .ok (.aload_n 0, 1) := by decide +kernel
theorem dX9_step_44 : decode cX9_step 44 = .ok (.invokevirtual 341, 3) := by decide +kernel
theorem dX9_step_47 : decode cX9_step 47 = .ok (.lstore 4, 2) := by decide +kernel
theorem dX9_step_49 : decode cX9_step 49 = .ok (.iconst 0, 1) := by decide +kernel
theorem dX9_step_50 : decode cX9_step 50 = .ok (.istore 6, 2) := by decide +kernel
theorem dX9_step_52 : decode cX9_step 52 = .ok (.iload 6, 2) := by decide +kernel
theorem dX9_step_54 : decode cX9_step 54 = .ok (.aload_n 0, 1) := by decide +kernel
theorem dX9_step_55 : decode cX9_step 55 = .ok (.getfield 345, 3) := by decide +kernel
theorem dX9_step_58 : decode cX9_step 58 = .ok (.if_icmp .ge 22, 3) := by decide +kernel
theorem dX9_step_61 : decode cX9_step 61 = .ok (.aload_n 0, 1) := by decide +kernel
theorem dX9_step_62 : decode cX9_step 62 = .ok (.getfield 106, 3) := by decide +kernel
theorem dX9_step_65 : decode cX9_step 65 = .ok (.iload 6, 2) := by decide +kernel
theorem dX9_step_67 : decode cX9_step 67 = .ok (.laload, 1) := by decide +kernel
theorem dX9_step_68 : decode cX9_step 68 = .ok (.lload 4, 2) := by decide +kernel
theorem dX9_step_70 : decode cX9_step 70 = .ok (.lcmp, 1) := by decide +kernel
theorem dX9_step_71 : decode cX9_step 71 = .ok (.ifCond .eq 9, 3) := by decide +kernel
theorem dX9_step_74 : decode cX9_step 74 = .ok (.iinc 6 1, 3) := by decide +kernel
theorem dX9_step_77 : decode cX9_step 77 = .ok (.goto (-25), 3) := by decide +kernel
theorem dX9_step_80 : decode cX9_step 80 = .ok (.iload 6, 2) := by decide +kernel
theorem dX9_step_82 : decode cX9_step 82 = .ok (.bipush 96, 2) := by decide +kernel
theorem dX9_step_84 : decode cX9_step 84 = .ok (.if_icmp .ne 9, 3) := by decide +kernel
theorem dX9_step_87 : decode cX9_step 87 = .ok (.aload_n 0, 1) := by decide +kernel
theorem dX9_step_88 : decode cX9_step 88 = .ok (.iconst 1, 1) := by decide +kernel
theorem dX9_step_89 : decode cX9_step 89 = .ok (.putfield 330, 3) := by decide +kernel
theorem dX9_step_92 : decode cX9_step 92 = .ok (.return_, 1) := by decide +kernel
theorem dX9_step_93 : decode cX9_step 93 = .ok (.aload_n 0, 1) := by decide +kernel
theorem dX9_step_94 : decode cX9_step 94 = .ok (.getfield 106, 3) := by decide +kernel
theorem dX9_step_97 : decode cX9_step 97 = .ok (.iload 6, 2) := by decide +kernel
theorem dX9_step_99 : decode cX9_step 99 = .ok (.lload 4, 2) := by decide +kernel
theorem dX9_step_101 : decode cX9_step 101 = .ok (.lastore, 1) := by decide +kernel
theorem dX9_step_102 : decode cX9_step 102 = .ok (.aload_n 0, 1) := by decide +kernel
theorem dX9_step_103 : decode cX9_step 103 = .ok (.iload 6, 2) := by decide +kernel
theorem dX9_step_105 : decode cX9_step 105 = .ok (.aload_n 0, 1) := by decide +kernel
theorem dX9_step_106 : decode cX9_step 106 = .ok (.getfield 345, 3) := by decide +kernel
theorem dX9_step_109 : decode cX9_step 109 = .ok (.if_icmp .ne 12, 3) := by decide +kernel
theorem dX9_step_112 : decode cX9_step 112 = .ok (.aload_n 0, 1) := by decide +kernel
theorem dX9_step_113 : decode cX9_step 113 = .ok (.getfield 345, 3) := by decide +kernel
theorem dX9_step_116 : decode cX9_step 116 = .ok (.iconst 1, 1) := by decide +kernel
theorem dX9_step_117 : decode cX9_step 117 = .ok (.iadd, 1) := by decide +kernel
theorem dX9_step_118 : decode cX9_step 118 = .ok (.goto 7, 3) := by decide +kernel
theorem dX9_step_121 : decode cX9_step 121 = .ok (.aload_n 0, 1) := by decide +kernel
theorem dX9_step_122 : decode cX9_step 122 = .ok (.getfield 345, 3) := by decide +kernel
theorem dX9_step_125 : decode cX9_step 125 = .ok (.putfield 345, 3) := by decide +kernel
theorem dX9_step_128 : decode cX9_step 128 = .ok (.aload_n 0, 1) := by decide +kernel
theorem dX9_step_129 : decode cX9_step 129 = .ok (.getfield 115, 3) := by decide +kernel
theorem dX9_step_132 : decode cX9_step 132 = .ok (.aload_n 0, 1) := by decide +kernel
theorem dX9_step_133 : decode cX9_step 133 = .ok (.getfield 327, 3) := by decide +kernel
theorem dX9_step_136 : decode cX9_step 136 = .ok (.iload_n 1, 1) := by decide +kernel
theorem dX9_step_137 : decode cX9_step 137 = .ok (.iastore, 1) := by decide +kernel
theorem dX9_step_138 : decode cX9_step 138 = .ok (.aload_n 0, 1) := by decide +kernel
theorem dX9_step_139 : decode cX9_step 139 = .ok (.getfield 112, 3) := by decide +kernel
theorem dX9_step_142 : decode cX9_step 142 = .ok (.aload_n 0, 1) := by decide +kernel
theorem dX9_step_143 : decode cX9_step 143 = .ok (.getfield 327, 3) := by decide +kernel
theorem dX9_step_146 : decode cX9_step 146 = .ok (.iload 6, 2) := by decide +kernel
theorem dX9_step_148 : decode cX9_step 148 = .ok (.iastore, 1) := by decide +kernel
theorem dX9_step_149 : decode cX9_step 149 = .ok (.aload_n 0, 1) := by decide +kernel
theorem dX9_step_150 : decode cX9_step 150 = .ok (.getfield 118, 3) := by decide +kernel
theorem dX9_step_153 : decode cX9_step 153 = .ok (.aload_n 0, 1) := by decide +kernel
theorem dX9_step_154 : decode cX9_step 154 = .ok (.getfield 327, 3) := by decide +kernel
theorem dX9_step_157 : decode cX9_step 157 = .ok (.iload_n 2, 1) := by decide +kernel
theorem dX9_step_158 : decode cX9_step 158 = .ok (.iastore, 1) := by decide +kernel
theorem dX9_step_159 : decode cX9_step 159 = .ok (.aload_n 0, 1) := by decide +kernel
theorem dX9_step_160 : decode cX9_step 160 = .ok (.getfield 121, 3) := by decide +kernel
theorem dX9_step_163 : decode cX9_step 163 = .ok (.aload_n 0, 1) := by decide +kernel
theorem dX9_step_164 : decode cX9_step 164 = .ok (.getfield 327, 3) := by decide +kernel
theorem dX9_step_167 : decode cX9_step 167 = .ok (.iload_n 3, 1) := by decide +kernel
theorem dX9_step_168 : decode cX9_step 168 = .ok (.iastore, 1) := by decide +kernel
theorem dX9_step_169 : decode cX9_step 169 = .ok (.aload_n 0, 1) := by decide +kernel
theorem dX9_step_170 : decode cX9_step 170 = .ok (.dup, 1) := by decide +kernel
theorem dX9_step_171 : decode cX9_step 171 = .ok (.getfield 327, 3) := by decide +kernel
theorem dX9_step_174 : decode cX9_step 174 = .ok (.iconst 1, 1) := by decide +kernel
theorem dX9_step_175 : decode cX9_step 175 = .ok (.iadd, 1) := by decide +kernel
theorem dX9_step_176 : decode cX9_step 176 = .ok (.putfield 327, 3) := by decide +kernel
theorem dX9_step_179 : decode cX9_step 179 = .ok (.return_, 1) := by decide +kernel
abbrev MX9_step : zT := (yX9_step, cX9_step, 7, (Option.none : Option Jvm.ClassFile.FieldType), [])
theorem plX9_step : zplain MX9_step 3 ∧ (zcodeW MX9_step ∈ lw_all ∧ Cond.initialized MX9_step.1.cls ∈ lw_all) := ⟨⟨by decide +kernel, by decide +kernel⟩, q2279, q127⟩
noncomputable def f_X9_step_125 (x0 x1 x2 x3 x6 t0 t1 : Int) (σ : zM) : Option zO :=
  (zpf σ 944 t1 t0).bind fun σ1 =>
  (zgf σ1 950 x0).bind fun v2 =>
  (zgf σ1 945 x0).bind fun v3 =>
  (zpa σ1 101 v2 v3 x1).bind fun σ4 =>
  (zgf σ4 949 x0).bind fun v5 =>
  (zgf σ4 945 x0).bind fun v6 =>
  (zpa σ4 101 v5 v6 x6).bind fun σ7 =>
  (zgf σ7 951 x0).bind fun v8 =>
  (zgf σ7 945 x0).bind fun v9 =>
  (zpa σ7 101 v8 v9 x2).bind fun σ10 =>
  (zgf σ10 952 x0).bind fun v11 =>
  (zgf σ10 945 x0).bind fun v12 =>
  (zpa σ10 101 v11 v12 x3).bind fun σ13 =>
  (zgf σ13 945 x0).bind fun v14 =>
  (zpf σ13 945 x0 (zadd v14 1)).bind fun σ15 =>
  some (0, ((3, 0) : zV), σ15)
theorem w_X9_step_125 {g : zG} {lv : Nat} {out : zO} (x0 x1 x2 x3 x6 t0 t1 : Int) (σ : zM) {r : zO} (h : f_X9_step_125 x0 x1 x2 x3 x6 t0 t1 σ = some r) (hk : (fun o : zO => o = out) r) : Gj g MX9_step (lv + 2) 125 [(0, zr x0), (1, zi x1), (2, zi x2), (3, zi x3), (6, zi x6)] [zi t0, zr t1] σ out := by
  revert h
  unfold f_X9_step_125
  refine gb_put (pc := 125) fl944 fr944 dX9_step_125 q1926 (Or.inl rfl) (fun σ1 => ?_)
  refine zst_ (gj_aload_n 0 (pc := 128) dX9_step_128 rfl) ?_
  refine gb_get (pc := 129) fl950 dX9_step_129 q1932 (Or.inl rfl) (fun v2 => ?_)
  refine zst_ (gj_aload_n 0 (pc := 132) dX9_step_132 rfl) ?_
  refine gb_get (pc := 133) fl945 dX9_step_133 q1927 (Or.inl rfl) (fun v3 => ?_)
  refine zst_ (gj_iload_n 1 (pc := 136) dX9_step_136 rfl) ?_
  refine gb_iast (pc := 137) dX9_step_137 (fun σ4 => ?_)
  refine zst_ (gj_aload_n 0 (pc := 138) dX9_step_138 rfl) ?_
  refine gb_get (pc := 139) fl949 dX9_step_139 q1931 (Or.inl rfl) (fun v5 => ?_)
  refine zst_ (gj_aload_n 0 (pc := 142) dX9_step_142 rfl) ?_
  refine gb_get (pc := 143) fl945 dX9_step_143 q1927 (Or.inl rfl) (fun v6 => ?_)
  refine zst_ (gj_iload 4 (pc := 146) dX9_step_146 rfl) ?_
  refine gb_iast (pc := 148) dX9_step_148 (fun σ7 => ?_)
  refine zst_ (gj_aload_n 0 (pc := 149) dX9_step_149 rfl) ?_
  refine gb_get (pc := 150) fl951 dX9_step_150 q1933 (Or.inl rfl) (fun v8 => ?_)
  refine zst_ (gj_aload_n 0 (pc := 153) dX9_step_153 rfl) ?_
  refine gb_get (pc := 154) fl945 dX9_step_154 q1927 (Or.inl rfl) (fun v9 => ?_)
  refine zst_ (gj_iload_n 2 (pc := 157) dX9_step_157 rfl) ?_
  refine gb_iast (pc := 158) dX9_step_158 (fun σ10 => ?_)
  refine zst_ (gj_aload_n 0 (pc := 159) dX9_step_159 rfl) ?_
  refine gb_get (pc := 160) fl952 dX9_step_160 q1934 (Or.inl rfl) (fun v11 => ?_)
  refine zst_ (gj_aload_n 0 (pc := 163) dX9_step_163 rfl) ?_
  refine gb_get (pc := 164) fl945 dX9_step_164 q1927 (Or.inl rfl) (fun v12 => ?_)
  refine zst_ (gj_iload_n 3 (pc := 167) dX9_step_167 rfl) ?_
  refine gb_iast (pc := 168) dX9_step_168 (fun σ13 => ?_)
  refine zst_ (gj_aload_n 0 (pc := 169) dX9_step_169 rfl) ?_
  refine zst_ (gj_dup (pc := 170) dX9_step_170 rfl) ?_
  refine gb_get (pc := 171) fl945 dX9_step_171 q1927 (Or.inl rfl) (fun v14 => ?_)
  refine zst_ (gj_iconst (pc := 174) dX9_step_174 (by decide)) ?_
  refine zst_ (gj_iadd (pc := 175) dX9_step_175) ?_
  refine gb_put (pc := 176) fl945 fr945 dX9_step_176 q1927 (Or.inl rfl) (fun σ15 => ?_)
  intro h
  cases h
  have hk : (0, ((3, 0) : zV), σ15) = out := hk
  subst hk
  exact gj_vret (pc := 179) dX9_step_179 rfl
noncomputable def f_X9_step_80 (x0 x1 x2 x3 x4 x6 : Int) (σ : zM) : Option zO :=
  if x6 ≠ 96 then
    (zgf σ 947 x0).bind fun v1 =>
    (zpa σ 102 v1 x6 x4).bind fun σ2 =>
    (zgf σ2 944 x0).bind fun v3 =>
    if x6 ≠ v3 then
      (zgf σ2 944 x0).bind fun v4 =>
      f_X9_step_125 x0 x1 x2 x3 x6 v4 x0 σ2
    else
      (zgf σ2 944 x0).bind fun v5 =>
      f_X9_step_125 x0 x1 x2 x3 x6 (zadd v5 1) x0 σ2
  else
    zgd (z01 1) <|
    (zpf σ 946 x0 1).bind fun σ6 =>
    some (0, ((3, 0) : zV), σ6)
theorem w_X9_step_80 {g : zG} {lv : Nat} {out : zO} (x0 x1 x2 x3 x4 x6 : Int) (σ : zM) {r : zO} (h : f_X9_step_80 x0 x1 x2 x3 x4 x6 σ = some r) (hk : (fun o : zO => o = out) r) : Gj g MX9_step (lv + 2) 80 [(0, zr x0), (1, zi x1), (2, zi x2), (3, zi x3), (4, zj x4), (6, zi x6)] [] σ out := by
  revert h
  unfold f_X9_step_80
  refine zst_ (gj_iload 5 (pc := 80) dX9_step_80 rfl) ?_
  refine zst_ (gj_bipush (pc := 82) dX9_step_82 ⟨rfl, by decide⟩) ?_
  refine gb_if (gj_icmp_ne 93 (pc := 84) dX9_step_84 (by decide)) ?_ ?_
  · refine zst_ (gj_aload_n 0 (pc := 93) dX9_step_93 rfl) ?_
    refine gb_get (pc := 94) fl947 dX9_step_94 q1929 (Or.inl rfl) (fun v1 => ?_)
    refine zst_ (gj_iload 5 (pc := 97) dX9_step_97 rfl) ?_
    refine zst_ (gj_lload 4 (pc := 99) dX9_step_99 rfl) ?_
    refine gb_last (pc := 101) dX9_step_101 (fun σ2 => ?_)
    refine zst_ (gj_aload_n 0 (pc := 102) dX9_step_102 rfl) ?_
    refine zst_ (gj_iload 5 (pc := 103) dX9_step_103 rfl) ?_
    refine zst_ (gj_aload_n 0 (pc := 105) dX9_step_105 rfl) ?_
    refine gb_get (pc := 106) fl944 dX9_step_106 q1926 (Or.inl rfl) (fun v3 => ?_)
    refine gb_if (gj_icmp_ne 121 (pc := 109) dX9_step_109 (by decide)) ?_ ?_
    · refine zst_ (gj_aload_n 0 (pc := 121) dX9_step_121 rfl) ?_
      refine gb_get (pc := 122) fl944 dX9_step_122 q1926 (Or.inl rfl) (fun v4 => ?_)
      refine zst_ (gj_sub [0, 1, 2, 3, 5] rfl) ?_
      exact fun h => w_X9_step_125 x0 x1 x2 x3 x6 v4 x0 σ2 h hk
    · refine zst_ (gj_aload_n 0 (pc := 112) dX9_step_112 rfl) ?_
      refine gb_get (pc := 113) fl944 dX9_step_113 q1926 (Or.inl rfl) (fun v5 => ?_)
      refine zst_ (gj_iconst (pc := 116) dX9_step_116 (by decide)) ?_
      refine zst_ (gj_iadd (pc := 117) dX9_step_117) ?_
      refine zst_ (gj_goto 125 (pc := 118) dX9_step_118 (by decide)) ?_
      refine zst_ (gj_sub [0, 1, 2, 3, 5] rfl) ?_
      exact fun h => w_X9_step_125 x0 x1 x2 x3 x6 (zadd v5 1) x0 σ2 h hk
  · refine zst_ (gj_aload_n 0 (pc := 87) dX9_step_87 rfl) ?_
    refine zst_ (gj_iconst (pc := 88) dX9_step_88 (by decide)) ?_
    refine gb_gd (fun hb => ?_)
    refine gb_put (pc := 89) fl946 (fr946 hb) dX9_step_89 q1928 (Or.inl rfl) (fun σ6 => ?_)
    intro h
    cases h
    have hk : (0, ((3, 0) : zV), σ6) = out := hk
    subst hk
    exact gj_vret (pc := 92) dX9_step_92 rfl
noncomputable def f_X9_step_52_b (x0 x1 x2 x3 x4 x6 : Int) (σ : zM) : Option ((Int) ⊕ zO) :=
  (zgf σ 944 x0).bind fun v1 =>
  if v1 ≤ x6 then
    (f_X9_step_80 x0 x1 x2 x3 x4 x6 σ).map (fun r => (.inr r))
  else
    (zgf σ 947 x0).bind fun v2 =>
    (zga σ 102 v2 x6).bind fun v3 =>
    if (zlcmp v3 x4) = 0 then
      (f_X9_step_80 x0 x1 x2 x3 x4 x6 σ).map (fun r => (.inr r))
    else
      zlet (zadd x6 1) fun y4 =>
      some (.inl y4)
noncomputable def f_X9_step_52 (x0 x1 x2 x3 x4 x6 : Int) (σ : zM) : Option zO :=
  zloop (fun s : Int => f_X9_step_52_b x0 x1 x2 x3 x4 s σ) x6
theorem w_X9_step_52_b {g : zG} {lv : Nat} {out : zO} (x0 x1 x2 x3 x4 x6 : Int) (σ : zM) {r : ((Int) ⊕ zO)} (h : f_X9_step_52_b x0 x1 x2 x3 x4 x6 σ = some r) (hk : (zKL (fun s : Int => Gj g MX9_step (lv + 2) 52 [(0, zr x0), (1, zi x1), (2, zi x2), (3, zi x3), (4, zj x4), (6, zi s)] [] σ out) (fun o : zO => o = out)) r) : Gj g MX9_step (lv + 2) 52 [(0, zr x0), (1, zi x1), (2, zi x2), (3, zi x3), (4, zj x4), (6, zi x6)] [] σ out := by
  revert h
  unfold f_X9_step_52_b
  refine zst_ (gj_iload 5 (pc := 52) dX9_step_52 rfl) ?_
  refine zst_ (gj_aload_n 0 (pc := 54) dX9_step_54 rfl) ?_
  refine gb_get (pc := 55) fl944 dX9_step_55 q1926 (Or.inl rfl) (fun v1 => ?_)
  refine gb_if (gj_icmp_ge 80 (pc := 58) dX9_step_58 (by decide)) ?_ ?_
  · intro h
    obtain ⟨r0, h0, rfl⟩ := zmE h
    exact w_X9_step_80 x0 x1 x2 x3 x4 x6 σ h0 hk
  · refine zst_ (gj_aload_n 0 (pc := 61) dX9_step_61 rfl) ?_
    refine gb_get (pc := 62) fl947 dX9_step_62 q1929 (Or.inl rfl) (fun v2 => ?_)
    refine zst_ (gj_iload 5 (pc := 65) dX9_step_65 rfl) ?_
    refine gb_lald (pc := 67) dX9_step_67 (fun v3 => ?_)
    refine zst_ (gj_lload 4 (pc := 68) dX9_step_68 rfl) ?_
    refine zst_ (gj_lcmp (pc := 70) dX9_step_70) ?_
    refine gb_if (gj_if_eq 80 (pc := 71) dX9_step_71 (by decide)) ?_ ?_
    · intro h
      obtain ⟨r0, h0, rfl⟩ := zmE h
      exact w_X9_step_80 x0 x1 x2 x3 x4 x6 σ h0 hk
    · refine gb_iinc (pc := 74) 5 (fun y4 => [(6, zi y4), (0, zr x0), (1, zi x1), (2, zi x2), (3, zi x3), (4, zj x4)]) dX9_step_74 rfl (by decide) (fun _ => rfl) (fun y4 => ?_)
      refine zst_ (gj_goto 52 (pc := 77) dX9_step_77 (by decide)) ?_
      refine zst_ (gj_sub [1, 2, 3, 4, 5, 0] rfl) ?_
      intro h
      cases h
      exact hk
theorem w_X9_step_52 {g : zG} {lv : Nat} {out : zO} (x0 x1 x2 x3 x4 x6 : Int) (σ : zM) {r : zO} (h : f_X9_step_52 x0 x1 x2 x3 x4 x6 σ = some r) (hk : (fun o : zO => o = out) r) : Gj g MX9_step (lv + 2) 52 [(0, zr x0), (1, zi x1), (2, zi x2), (3, zi x3), (4, zj x4), (6, zi x6)] [] σ out :=
  gj_loop (P := (fun s : Int => Gj g MX9_step (lv + 2) 52 [(0, zr x0), (1, zi x1), (2, zi x2), (3, zi x3), (4, zj x4), (6, zi s)] [] σ out)) (fun s x hb hx => w_X9_step_52_b x0 x1 x2 x3 x4 s σ hb hx) h hk
noncomputable def f_X9_step_43 (x0 x1 x2 x3 : Int) (σ : zM) : Option zO :=
  zgd (zis σ 10 x0) <|
  zcj (f_X9_packed x0 σ) fun v1 σ2 =>
  f_X9_step_52 x0 x1 x2 x3 v1 0 σ2
theorem w_X9_step_43 {g : zG} {lv : Nat} {out : zO} (x0 x1 x2 x3 : Int) (σ : zM) {r : zO} (h : f_X9_step_43 x0 x1 x2 x3 σ = some r) (hk : (fun o : zO => o = out) r) : Gj g MX9_step (lv + 2) 43 [(0, zr x0), (1, zi x1), (2, zi x2), (3, zi x3)] [] σ out := by
  revert h
  unfold f_X9_step_43
  refine zst_ (gj_aload_n 0 (pc := 43) dX9_step_43 rfl) ?_
  refine gb_gd (fun hb => ?_)
  refine gb_callJ (pc := 44) (as := [zr x0]) (rest := []) (zCl.of (zLk_V (M := MX9_step) (ci := 9) (r := (RX9, TX9, 84)) plX9_packed.1 rfl rfl (zisE hb).1 (zisE hb).2 dX9_step_44 q2241 q2243 qs67 q2244) plX9_packed (Nat.le_of_ble_eq_true rfl) (fun h => c_X9_packed h)) (fun v1 σ2 => ?_)
  refine zst_ (gj_lstore (pc := 47) (ls' := [(4, zj v1), (0, zr x0), (1, zi x1), (2, zi x2), (3, zi x3)]) dX9_step_47 (by decide) rfl) ?_
  refine zst_ (gj_iconst (pc := 49) dX9_step_49 (by decide)) ?_
  refine zst_ (gj_istore (pc := 50) (ls' := [(6, zi 0), (4, zj v1), (0, zr x0), (1, zi x1), (2, zi x2), (3, zi x3)]) dX9_step_50 (by decide) rfl) ?_
  refine zst_ (gj_sub [2, 3, 4, 5, 1, 0] rfl) ?_
  exact fun h => w_X9_step_52 x0 x1 x2 x3 v1 0 σ2 h hk
noncomputable def f_X9_step_15 (x0 x1 x2 x3 : Int) (σ : zM) : Option zO :=
  (zgf σ 946 x0).bind fun v1 =>
  if v1 = 0 then
    (zgf σ 947 x0).bind fun v2 =>
    (zga σ 102 v2 x1).bind fun v3 =>
    zgd (zis σ 10 x0) <|
    zcv (f_X9_unpack x0 v3 σ) fun σ4 =>
    if x2 < 0 then
      f_X9_step_43 x0 x1 x2 x3 σ4
    else
      zgd (zis σ4 10 x0) <|
      zcv (f_X9_act x0 x2 x3 σ4) fun σ5 =>
      f_X9_step_43 x0 x1 x2 x3 σ5
  else
    some (0, ((3, 0) : zV), σ)
theorem w_X9_step_15 {g : zG} {lv : Nat} {out : zO} (x0 x1 x2 x3 : Int) (σ : zM) {r : zO} (h : f_X9_step_15 x0 x1 x2 x3 σ = some r) (hk : (fun o : zO => o = out) r) : Gj g MX9_step (lv + 2) 15 [(0, zr x0), (1, zi x1), (2, zi x2), (3, zi x3)] [] σ out := by
  revert h
  unfold f_X9_step_15
  refine zst_ (gj_aload_n 0 (pc := 15) dX9_step_15 rfl) ?_
  refine gb_get (pc := 16) fl946 dX9_step_16 q1928 (Or.inl rfl) (fun v1 => ?_)
  refine gb_if (gj_if_eq 23 (pc := 19) dX9_step_19 (by decide)) ?_ ?_
  · refine zst_ (gj_aload_n 0 (pc := 23) dX9_step_23 rfl) ?_
    refine zst_ (gj_aload_n 0 (pc := 24) dX9_step_24 rfl) ?_
    refine gb_get (pc := 25) fl947 dX9_step_25 q1929 (Or.inl rfl) (fun v2 => ?_)
    refine zst_ (gj_iload_n 1 (pc := 28) dX9_step_28 rfl) ?_
    refine gb_lald (pc := 29) dX9_step_29 (fun v3 => ?_)
    refine gb_gd (fun hb => ?_)
    refine gb_callV (pc := 30) (as := [zr x0, zj v3]) (rest := []) (zCl.of (zLk_V (M := MX9_step) (ci := 9) (r := (RX9, TX9, 84)) plX9_unpack.1 rfl rfl (zisE hb).1 (zisE hb).2 dX9_step_30 q2249 q2251 qs69 q2252) plX9_unpack (Nat.le_of_ble_eq_true rfl) (fun h => c_X9_unpack h)) (fun σ4 => ?_)
    refine zst_ (gj_iload_n 2 (pc := 33) dX9_step_33 rfl) ?_
    refine gb_if (gj_if_lt 43 (pc := 34) dX9_step_34 (by decide)) ?_ ?_
    · exact fun h => w_X9_step_43 x0 x1 x2 x3 σ4 h hk
    · refine zst_ (gj_aload_n 0 (pc := 37) dX9_step_37 rfl) ?_
      refine zst_ (gj_iload_n 2 (pc := 38) dX9_step_38 rfl) ?_
      refine zst_ (gj_iload_n 3 (pc := 39) dX9_step_39 rfl) ?_
      refine gb_gd (fun hb => ?_)
      refine gb_callV (pc := 40) (as := [zr x0, zi x2, zi x3]) (rest := []) (zCl.of (zLk_V (M := MX9_step) (ci := 9) (r := (RX9, TX9, 84)) plX9_act.1 rfl rfl (zisE hb).1 (zisE hb).2 dX9_step_40 q2280 q2282 qs76 q2283) plX9_act (Nat.le_of_ble_eq_true rfl) (fun h => c_X9_act h)) (fun σ5 => ?_)
      exact fun h => w_X9_step_43 x0 x1 x2 x3 σ5 h hk
  · intro h
    cases h
    have hk : (0, ((3, 0) : zV), σ) = out := hk
    subst hk
    exact gj_vret (pc := 22) dX9_step_22 rfl
noncomputable def f_X9_step (x0 x1 x2 x3 : Int) (σ : zM) : Option zO :=
  (zgf σ 945 x0).bind fun v1 =>
  if v1 ≠ 400 then
    f_X9_step_15 x0 x1 x2 x3 σ
  else
    zgd (z01 1) <|
    (zpf σ 946 x0 1).bind fun σ2 =>
    f_X9_step_15 x0 x1 x2 x3 σ2
theorem c_X9_step {g : zG} {lv : Nat} {x0 x1 x2 x3 : Int} {σ : zM} {out : zO} (h : f_X9_step x0 x1 x2 x3 σ = some out) : Cj g (lv + 2) MX9_step [zr x0, zi x1, zi x2, zi x3] σ out := by
  refine cj_go (ls := [(0, zr x0), (1, zi x1), (2, zi x2), (3, zi x3)]) (by decide) (Nat.le_of_ble_eq_true rfl) rfl (zgen h (fun r hk => ?_))
  unfold f_X9_step
  refine zst_ (gj_aload_n 0 (pc := 0) dX9_step_0 rfl) ?_
  refine gb_get (pc := 1) fl945 dX9_step_1 q1927 (Or.inl rfl) (fun v1 => ?_)
  refine zst_ (gj_sipush (pc := 4) dX9_step_4 ⟨rfl, by decide⟩) ?_
  refine gb_if (gj_icmp_ne 15 (pc := 7) dX9_step_7 (by decide)) ?_ ?_
  · exact fun h => w_X9_step_15 x0 x1 x2 x3 σ h hk
  · refine zst_ (gj_aload_n 0 (pc := 10) dX9_step_10 rfl) ?_
    refine zst_ (gj_iconst (pc := 11) dX9_step_11 (by decide)) ?_
    refine gb_gd (fun hb => ?_)
    refine gb_put (pc := 12) fl946 (fr946 hb) dX9_step_12 q1928 (Or.inl rfl) (fun σ2 => ?_)
    exact fun h => w_X9_step_15 x0 x1 x2 x3 σ2 h hk

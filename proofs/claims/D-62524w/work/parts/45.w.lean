set_option maxRecDepth 100000
theorem q1799 : (Jvm.Cond.code ({ cls := "LassoFinder$Search", name := "best", desc := "(JI)I" } : Jvm.MethodName) prog_18_method_15_code (9 : Nat) (Option.some Jvm.ClassFile.FieldType.int)) ∈ lw_all := lw_g (lw_at lw_m8 19 rfl) rfl
abbrev cX8_best : ByteArray := prog_18_method_15_code
def yX8_best : MethodName := ⟨RX8, "best", "(JI)I"⟩
theorem dX8_best_0 : decode cX8_best 0 = .ok (.sipush 30000, 3) := by decide +kernel
theorem dX8_best_3 : decode cX8_best 3 = .ok (.istore 4, 2) := by decide +kernel
theorem dX8_best_5 : decode cX8_best 5 = .ok (.bipush 8, 2) := by decide +kernel
theorem dX8_best_7 : decode cX8_best 7 = .ok (.aload_n 0, 1) := by decide +kernel
theorem dX8_best_8 : decode cX8_best 8 = .ok (.getfield 64, 3) := by decide +kernel
theorem dX8_best_11 : decode cX8_best 11 = .ok (.getfield 106, 3) := by decide +kernel
theorem dX8_best_14 : decode cX8_best 14 = .ok (.iload_n 3, 1) := by decide +kernel
theorem dX8_best_15 : decode cX8_best 15 = .ok (.iaload, 1) := by decide +kernel
theorem dX8_best_16 : decode cX8_best 16 = .ok (.imul, 1) := by decide +kernel
theorem dX8_best_17 : decode cX8_best 17 = .ok (.istore 5, 2) := by decide +kernel
theorem dX8_best_19 : decode cX8_best 19 = .ok (.bipush 8, 2) := by decide +kernel
theorem dX8_best_21 : decode cX8_best 21 = .ok (.aload_n 0, 1) := by decide +kernel
theorem dX8_best_22 : decode cX8_best 22 = .ok (.getfield 64, 3) := by decide +kernel
theorem dX8_best_25 : decode cX8_best 25 = .ok (.getfield 144, 3) := by decide +kernel
theorem dX8_best_28 : decode cX8_best 28 = .ok (.iload_n 3, 1) := by decide +kernel
theorem dX8_best_29 : decode cX8_best 29 = .ok (.iaload, 1) := by decide +kernel
theorem dX8_best_30 : decode cX8_best 30 = .ok (.imul, 1) := by decide +kernel
theorem dX8_best_31 : decode cX8_best 31 = .ok (.istore 6, 2) := by decide +kernel
theorem dX8_best_33 : decode cX8_best 33 = .ok (.iconst 0, 1) := by decide +kernel
theorem dX8_best_34 : decode cX8_best 34 = .ok (.istore 7, 2) := by decide +kernel
theorem dX8_best_36 : decode cX8_best 36 = .ok (.iload 7, 2) := by decide +kernel
theorem dX8_best_38 : decode cX8_best 38 = .ok (.aload_n 0, 1) := by decide +kernel
theorem dX8_best_39 : decode cX8_best 39 = .ok (.invokevirtual 93, 3) := by decide +kernel
theorem dX8_best_42 : decode cX8_best 42 = .ok (.if_icmp .ge 86, 3) := by decide +kernel
theorem dX8_best_45 : decode cX8_best 45 = .ok (.iconst 0, 1) := by decide +kernel
theorem dX8_best_46 : decode cX8_best 46 = .ok (.istore 8, 2) := by decide +kernel
theorem dX8_best_48 : decode cX8_best 48 = .ok (.iload 8, 2) := by decide +kernel
theorem dX8_best_50 : decode cX8_best 50 = .ok (.aload_n 0, 1) := by decide +kernel
theorem dX8_best_51 : decode cX8_best 51 = .ok (.invokevirtual 93, 3) := by decide +kernel
theorem dX8_best_54 : decode cX8_best 54 = .ok (.if_icmp .ge 68, 3) := by decide +kernel
theorem dX8_best_57 : decode cX8_best 57 = .ok (.lload_n 1, 1) := by decide +kernel
theorem dX8_best_58 : decode cX8_best 58 = .ok (.bipush 8, 2) := by decide +kernel
theorem dX8_best_60 : decode cX8_best 60 = .ok (.aload_n 0, 1) := by decide +kernel
theorem dX8_best_61 : decode cX8_best 61 = .ok (.getfield 15, 3) := by decide +kernel
theorem dX8_best_64 : decode cX8_best 64 = .ok (.iload 6, 2) := by decide +kernel
theorem dX8_best_66 : decode cX8_best 66 = .ok (.iload 7, 2) := by decide +kernel
theorem dX8_best_68 : decode cX8_best 68 = .ok (.iadd, 1) := by decide +kernel
theorem dX8_best_69 : decode cX8_best 69 = .ok (.iaload, 1) := by decide +kernel
theorem dX8_best_70 : decode cX8_best 70 = .ok (.imul, 1) := by decide +kernel
theorem dX8_best_71 : decode cX8_best 71 = .ok (.iload 8, 2) := by decide +kernel
theorem dX8_best_73 : decode cX8_best 73 = .ok (.iadd, 1) := by decide +kernel
theorem dX8_best_74 : decode cX8_best 74 = .ok (.lshr, 1) := by decide +kernel
theorem dX8_best_75 : decode cX8_best 75 = .ok (.lconst 1, 1) := by decide +kernel
theorem dX8_best_76 : decode cX8_best 76 = .ok (.land, 1) := by decide +kernel
theorem dX8_best_77 : decode cX8_best 77 = .ok (.lconst 1, 1) := by decide +kernel
theorem dX8_best_78 : decode cX8_best 78 = .ok (.lcmp, 1) := by decide +kernel
theorem dX8_best_79 : decode cX8_best 79 = .ok (.ifCond .ne 37, 3) := by decide +kernel
theorem dX8_best_82 : decode cX8_best 82 = .ok (.iload 4, 2) := by decide +kernel
theorem dX8_best_84 : decode cX8_best 84 = .ok (.aload_n 0, 1) := by decide +kernel
theorem dX8_best_85 : decode cX8_best 85 = .ok (.getfield 49, 3) := by decide +kernel
theorem dX8_best_88 : decode cX8_best 88 = .ok (.bipush 8, 2) := by decide +kernel
theorem dX8_best_90 : decode cX8_best 90 = .ok (.iload 5, 2) := by decide +kernel
theorem dX8_best_92 : decode cX8_best 92 = .ok (.iload 7, 2) := by decide +kernel
theorem dX8_best_94 : decode cX8_best 94 = .ok (.iadd, 1) := by decide +kernel
theorem dX8_best_95 : decode cX8_best 95 = .ok (.imul, 1) := by decide +kernel
theorem dX8_best_96 : decode cX8_best 96 = .ok (.iload 8, 2) := by decide +kernel
theorem dX8_best_98 : decode cX8_best 98 = .ok (.aload_n 0, 1) := by decide +kernel
theorem dX8_best_99 : decode cX8_best 99 = .ok (.getfield 18, 3) := by decide +kernel
theorem dX8_best_102 : decode cX8_best 102 = .ok (.iload 5, 2) := by decide +kernel
theorem dX8_best_104 : decode cX8_best 104 = .ok (.iload 7, 2) := by decide +kernel
theorem dX8_best_106 : decode cX8_best 106 = .ok (.iadd, 1) := by decide +kernel
theorem dX8_best_107 : decode cX8_best 107 = .ok (.iaload, 1) := by decide +kernel
theorem dX8_best_108 : decode cX8_best 108 = .ok (.ior, 1) := by decide +kernel
theorem dX8_best_109 : decode cX8_best 109 = .ok (.iadd, 1) := by decide +kernel
theorem dX8_best_110 : decode cX8_best 110 = .ok (.iaload, 1) := by decide +kernel
theorem dX8_best_111 : decode cX8_best 111 = .ok (.invokestatic 132, 3) := by decide +kernel
theorem dX8_best_114 : decode cX8_best 114 = .ok (.istore 4, 2) := by decide +kernel
theorem dX8_best_116 : decode cX8_best 116 = .ok (.iinc 8 1, 3) := by decide +kernel
theorem dX8_best_119 : decode cX8_best 119 = .ok (.goto (-71), 3) := by decide +kernel
theorem dX8_best_122 : decode cX8_best 122 = .ok (.iinc 7 1, 3) := by decide +kernel
theorem dX8_best_125 : decode cX8_best 125 = .ok (.goto (-89), 3) := by decide +kernel
theorem dX8_best_128 : decode cX8_best 128 = .ok (.iload 4, 2) := by decide +kernel
theorem dX8_best_130 : decode cX8_best 130 = .ok (.ireturn, 1) := by decide +kernel
abbrev MX8_best : zT := (yX8_best, cX8_best, 9, (Option.some Jvm.ClassFile.FieldType.int), [])
theorem plX8_best : zplain MX8_best 2 ∧ (zcodeW MX8_best ∈ lw_all ∧ Cond.initialized MX8_best.1.cls ∈ lw_all) := ⟨⟨by decide +kernel, by decide +kernel⟩, q1799, q126⟩
noncomputable def f_X8_best_128 (x4 : Int) (σ : zM) : Option zO :=
  some (0, zi x4, σ)
theorem w_X8_best_128 {g : zG} {lv : Nat} {out : zO} (x4 : Int) (σ : zM) {r : zO} (h : f_X8_best_128 x4 σ = some r) (hk : (fun o : zO => o = out) r) : Gj g MX8_best (lv + 1) 128 [(4, zi x4)] [] σ out := by
  revert h
  unfold f_X8_best_128
  refine zst_ (gj_iload 0 (pc := 128) dX8_best_128 rfl) ?_
  intro h
  cases h
  have hk : (0, zi x4, σ) = out := hk
  subst hk
  exact gj_ret (pc := 130) (t := .int) dX8_best_130 rfl ⟨rfl, rfl⟩ (fun h => h)
noncomputable def f_X8_best_122 (x0 x1 x4 x5 x6 x7 : Int) (σ : zM) : Option ((Int × Int × zM) ⊕ zO) :=
  zlet (zadd x7 1) fun y1 =>
  some (.inl (x4, y1, σ))
theorem w_X8_best_122 {g : zG} {lv : Nat} {out : zO} (x0 x1 x4 x5 x6 x7 : Int) (σ : zM) {r : ((Int × Int × zM) ⊕ zO)} (h : f_X8_best_122 x0 x1 x4 x5 x6 x7 σ = some r) (hk : (zKL (fun s : Int × Int × zM => Gj g MX8_best (lv + 1) 36 [(0, zr x0), (1, zj x1), (4, zi s.1), (5, zi x5), (6, zi x6), (7, zi s.2.1)] [] s.2.2 out) (fun o : zO => o = out)) r) : Gj g MX8_best (lv + 1) 122 [(0, zr x0), (1, zj x1), (4, zi x4), (5, zi x5), (6, zi x6), (7, zi x7)] [] σ out := by
  revert h
  unfold f_X8_best_122
  refine gb_iinc (pc := 122) 5 (fun y1 => [(7, zi y1), (0, zr x0), (1, zj x1), (4, zi x4), (5, zi x5), (6, zi x6)]) dX8_best_122 rfl (by decide) (fun _ => rfl) (fun y1 => ?_)
  refine zst_ (gj_goto 36 (pc := 125) dX8_best_125 (by decide)) ?_
  refine zst_ (gj_sub [1, 2, 3, 4, 5, 0] rfl) ?_
  intro h
  cases h
  exact hk
noncomputable def f_X8_best_116 (x0 x1 x4 x5 x6 x7 x8 : Int) (σ : zM) : Option ((Int × Int × zM) ⊕ ((Int × Int × zM) ⊕ zO)) :=
  zlet (zadd x8 1) fun y1 =>
  some (.inl (x4, y1, σ))
theorem w_X8_best_116 {g : zG} {lv : Nat} {out : zO} (x0 x1 x4 x5 x6 x7 x8 : Int) (σ : zM) {r : ((Int × Int × zM) ⊕ ((Int × Int × zM) ⊕ zO))} (h : f_X8_best_116 x0 x1 x4 x5 x6 x7 x8 σ = some r) (hk : (zKL (fun s : Int × Int × zM => Gj g MX8_best (lv + 1) 48 [(0, zr x0), (1, zj x1), (4, zi s.1), (5, zi x5), (6, zi x6), (7, zi x7), (8, zi s.2.1)] [] s.2.2 out) (zKL (fun s : Int × Int × zM => Gj g MX8_best (lv + 1) 36 [(0, zr x0), (1, zj x1), (4, zi s.1), (5, zi x5), (6, zi x6), (7, zi s.2.1)] [] s.2.2 out) (fun o : zO => o = out))) r) : Gj g MX8_best (lv + 1) 116 [(0, zr x0), (1, zj x1), (4, zi x4), (5, zi x5), (6, zi x6), (7, zi x7), (8, zi x8)] [] σ out := by
  revert h
  unfold f_X8_best_116
  refine gb_iinc (pc := 116) 6 (fun y1 => [(8, zi y1), (0, zr x0), (1, zj x1), (4, zi x4), (5, zi x5), (6, zi x6), (7, zi x7)]) dX8_best_116 rfl (by decide) (fun _ => rfl) (fun y1 => ?_)
  refine zst_ (gj_goto 48 (pc := 119) dX8_best_119 (by decide)) ?_
  refine zst_ (gj_sub [1, 2, 3, 4, 5, 6, 0] rfl) ?_
  intro h
  cases h
  exact hk
noncomputable def f_X8_best_48_b (x0 x1 x4 x5 x6 x7 x8 : Int) (σ : zM) : Option ((Int × Int × zM) ⊕ ((Int × Int × zM) ⊕ zO)) :=
  zgd (zis σ 9 x0) <|
  zci (f_X8_kinds x0 σ) fun v1 σ2 =>
  if v1 ≤ x8 then
    (f_X8_best_122 x0 x1 x4 x5 x6 x7 σ2).map (fun r => (.inr r))
  else
    (zgf σ2 803 x0).bind fun v3 =>
    (zga σ2 101 v3 (zadd x6 x7)).bind fun v4 =>
    if (zlcmp (jand (jshr x1 (zadd (zmul 8 v4) x8)) 1) 1) ≠ 0 then
      f_X8_best_116 x0 x1 x4 x5 x6 x7 x8 σ2
    else
      (zgf σ2 816 x0).bind fun v5 =>
      (zgf σ2 804 x0).bind fun v6 =>
      (zga σ2 101 v6 (zadd x5 x7)).bind fun v7 =>
      (zga σ2 101 v5 (zadd (zmul 8 (zadd x5 x7)) (zor x8 v7))).bind fun v8 =>
      zlet (if v8 < x4 then v8 else x4) fun y9 =>
      f_X8_best_116 x0 x1 y9 x5 x6 x7 x8 σ2
noncomputable def f_X8_best_48 (x0 x1 x4 x5 x6 x7 x8 : Int) (σ : zM) : Option ((Int × Int × zM) ⊕ zO) :=
  zloop (fun s : Int × Int × zM => f_X8_best_48_b x0 x1 s.1 x5 x6 x7 s.2.1 s.2.2) (x4, x8, σ)
theorem w_X8_best_48_b {g : zG} {lv : Nat} {out : zO} (x0 x1 x4 x5 x6 x7 x8 : Int) (σ : zM) {r : ((Int × Int × zM) ⊕ ((Int × Int × zM) ⊕ zO))} (h : f_X8_best_48_b x0 x1 x4 x5 x6 x7 x8 σ = some r) (hk : (zKL (fun s : Int × Int × zM => Gj g MX8_best (lv + 1) 48 [(0, zr x0), (1, zj x1), (4, zi s.1), (5, zi x5), (6, zi x6), (7, zi x7), (8, zi s.2.1)] [] s.2.2 out) (zKL (fun s : Int × Int × zM => Gj g MX8_best (lv + 1) 36 [(0, zr x0), (1, zj x1), (4, zi s.1), (5, zi x5), (6, zi x6), (7, zi s.2.1)] [] s.2.2 out) (fun o : zO => o = out))) r) : Gj g MX8_best (lv + 1) 48 [(0, zr x0), (1, zj x1), (4, zi x4), (5, zi x5), (6, zi x6), (7, zi x7), (8, zi x8)] [] σ out := by
  revert h
  unfold f_X8_best_48_b
  refine zst_ (gj_iload 6 (pc := 48) dX8_best_48 rfl) ?_
  refine zst_ (gj_aload_n 0 (pc := 50) dX8_best_50 rfl) ?_
  refine gb_gd (fun hb => ?_)
  refine gb_callI (pc := 51) (as := [zr x0]) (rest := [zi x8]) (zCl.of (zLk_V (M := MX8_best) (ci := 8) (r := (RX8, TX8, 23)) plX8_kinds.1 rfl rfl (zisE hb).1 (zisE hb).2 dX8_best_51 q1699 q1701 qs30 q1702) plX8_kinds (Nat.le_of_ble_eq_true rfl) (fun h => c_X8_kinds h)) (fun v1 σ2 => ?_)
  refine gb_if (gj_icmp_ge 122 (pc := 54) dX8_best_54 (by decide)) ?_ ?_
  · refine zst_ (gj_sub [0, 1, 2, 3, 4, 5] rfl) ?_
    intro h
    obtain ⟨r0, h0, rfl⟩ := zmE h
    exact w_X8_best_122 x0 x1 x4 x5 x6 x7 σ2 h0 hk
  · refine zst_ (gj_lload_n 1 (pc := 57) dX8_best_57 rfl) ?_
    refine zst_ (gj_bipush (pc := 58) dX8_best_58 ⟨rfl, by decide⟩) ?_
    refine zst_ (gj_aload_n 0 (pc := 60) dX8_best_60 rfl) ?_
    refine gb_get (pc := 61) fl803 dX8_best_61 q768 (Or.inl rfl) (fun v3 => ?_)
    refine zst_ (gj_iload 4 (pc := 64) dX8_best_64 rfl) ?_
    refine zst_ (gj_iload 5 (pc := 66) dX8_best_66 rfl) ?_
    refine zst_ (gj_iadd (pc := 68) dX8_best_68) ?_
    refine gb_iald (pc := 69) dX8_best_69 (fun v4 => ?_)
    refine zst_ (gj_imul (pc := 70) dX8_best_70) ?_
    refine zst_ (gj_iload 6 (pc := 71) dX8_best_71 rfl) ?_
    refine zst_ (gj_iadd (pc := 73) dX8_best_73) ?_
    refine zst_ (gj_lshr (pc := 74) dX8_best_74) ?_
    refine zst_ (gj_lconst1 (pc := 75) dX8_best_75) ?_
    refine zst_ (gj_land (pc := 76) dX8_best_76) ?_
    refine zst_ (gj_lconst1 (pc := 77) dX8_best_77) ?_
    refine zst_ (gj_lcmp (pc := 78) dX8_best_78) ?_
    refine gb_if (gj_if_ne 116 (pc := 79) dX8_best_79 (by decide)) ?_ ?_
    · exact fun h => w_X8_best_116 x0 x1 x4 x5 x6 x7 x8 σ2 h hk
    · refine zst_ (gj_iload 2 (pc := 82) dX8_best_82 rfl) ?_
      refine zst_ (gj_aload_n 0 (pc := 84) dX8_best_84 rfl) ?_
      refine gb_get (pc := 85) fl816 dX8_best_85 q781 (Or.inl rfl) (fun v5 => ?_)
      refine zst_ (gj_bipush (pc := 88) dX8_best_88 ⟨rfl, by decide⟩) ?_
      refine zst_ (gj_iload 3 (pc := 90) dX8_best_90 rfl) ?_
      refine zst_ (gj_iload 5 (pc := 92) dX8_best_92 rfl) ?_
      refine zst_ (gj_iadd (pc := 94) dX8_best_94) ?_
      refine zst_ (gj_imul (pc := 95) dX8_best_95) ?_
      refine zst_ (gj_iload 6 (pc := 96) dX8_best_96 rfl) ?_
      refine zst_ (gj_aload_n 0 (pc := 98) dX8_best_98 rfl) ?_
      refine gb_get (pc := 99) fl804 dX8_best_99 q769 (Or.inl rfl) (fun v6 => ?_)
      refine zst_ (gj_iload 3 (pc := 102) dX8_best_102 rfl) ?_
      refine zst_ (gj_iload 5 (pc := 104) dX8_best_104 rfl) ?_
      refine zst_ (gj_iadd (pc := 106) dX8_best_106) ?_
      refine gb_iald (pc := 107) dX8_best_107 (fun v7 => ?_)
      refine zst_ (gj_ior (pc := 108) dX8_best_108) ?_
      refine zst_ (gj_iadd (pc := 109) dX8_best_109) ?_
      refine gb_iald (pc := 110) dX8_best_110 (fun v8 => ?_)
      refine zst_ (gj_mmin (pc := 111) dX8_best_111 q1769 q477 q119 q478 (by omega) (Nat.le_of_ble_eq_true rfl)) ?_
      refine gb_let (fun y9 => ?_)
      refine zst_ (gj_istore (pc := 114) (ls' := [(4, zi y9), (0, zr x0), (1, zj x1), (5, zi x5), (6, zi x6), (7, zi x7), (8, zi x8)]) dX8_best_114 (by decide) rfl) ?_
      refine zst_ (gj_sub [1, 2, 0, 3, 4, 5, 6] rfl) ?_
      exact fun h => w_X8_best_116 x0 x1 y9 x5 x6 x7 x8 σ2 h hk
theorem w_X8_best_48 {g : zG} {lv : Nat} {out : zO} (x0 x1 x4 x5 x6 x7 x8 : Int) (σ : zM) {r : ((Int × Int × zM) ⊕ zO)} (h : f_X8_best_48 x0 x1 x4 x5 x6 x7 x8 σ = some r) (hk : (zKL (fun s : Int × Int × zM => Gj g MX8_best (lv + 1) 36 [(0, zr x0), (1, zj x1), (4, zi s.1), (5, zi x5), (6, zi x6), (7, zi s.2.1)] [] s.2.2 out) (fun o : zO => o = out)) r) : Gj g MX8_best (lv + 1) 48 [(0, zr x0), (1, zj x1), (4, zi x4), (5, zi x5), (6, zi x6), (7, zi x7), (8, zi x8)] [] σ out :=
  gj_loop (P := (fun s : Int × Int × zM => Gj g MX8_best (lv + 1) 48 [(0, zr x0), (1, zj x1), (4, zi s.1), (5, zi x5), (6, zi x6), (7, zi x7), (8, zi s.2.1)] [] s.2.2 out)) (fun s x hb hx => w_X8_best_48_b x0 x1 s.1 x5 x6 x7 s.2.1 s.2.2 hb hx) h hk
noncomputable def f_X8_best_36_b (x0 x1 x4 x5 x6 x7 : Int) (σ : zM) : Option ((Int × Int × zM) ⊕ zO) :=
  zgd (zis σ 9 x0) <|
  zci (f_X8_kinds x0 σ) fun v1 σ2 =>
  if v1 ≤ x7 then
    (f_X8_best_128 x4 σ2).map (fun r => (.inr r))
  else
    f_X8_best_48 x0 x1 x4 x5 x6 x7 0 σ2
noncomputable def f_X8_best_36 (x0 x1 x4 x5 x6 x7 : Int) (σ : zM) : Option zO :=
  zloop (fun s : Int × Int × zM => f_X8_best_36_b x0 x1 s.1 x5 x6 s.2.1 s.2.2) (x4, x7, σ)
theorem w_X8_best_36_b {g : zG} {lv : Nat} {out : zO} (x0 x1 x4 x5 x6 x7 : Int) (σ : zM) {r : ((Int × Int × zM) ⊕ zO)} (h : f_X8_best_36_b x0 x1 x4 x5 x6 x7 σ = some r) (hk : (zKL (fun s : Int × Int × zM => Gj g MX8_best (lv + 1) 36 [(0, zr x0), (1, zj x1), (4, zi s.1), (5, zi x5), (6, zi x6), (7, zi s.2.1)] [] s.2.2 out) (fun o : zO => o = out)) r) : Gj g MX8_best (lv + 1) 36 [(0, zr x0), (1, zj x1), (4, zi x4), (5, zi x5), (6, zi x6), (7, zi x7)] [] σ out := by
  revert h
  unfold f_X8_best_36_b
  refine zst_ (gj_iload 5 (pc := 36) dX8_best_36 rfl) ?_
  refine zst_ (gj_aload_n 0 (pc := 38) dX8_best_38 rfl) ?_
  refine gb_gd (fun hb => ?_)
  refine gb_callI (pc := 39) (as := [zr x0]) (rest := [zi x7]) (zCl.of (zLk_V (M := MX8_best) (ci := 8) (r := (RX8, TX8, 23)) plX8_kinds.1 rfl rfl (zisE hb).1 (zisE hb).2 dX8_best_39 q1699 q1701 qs30 q1702) plX8_kinds (Nat.le_of_ble_eq_true rfl) (fun h => c_X8_kinds h)) (fun v1 σ2 => ?_)
  refine gb_if (gj_icmp_ge 128 (pc := 42) dX8_best_42 (by decide)) ?_ ?_
  · refine zst_ (gj_sub [2] rfl) ?_
    intro h
    obtain ⟨r0, h0, rfl⟩ := zmE h
    exact w_X8_best_128 x4 σ2 h0 hk
  · refine zst_ (gj_iconst (pc := 45) dX8_best_45 (by decide)) ?_
    refine zst_ (gj_istore (pc := 46) (ls' := [(8, zi 0), (0, zr x0), (1, zj x1), (4, zi x4), (5, zi x5), (6, zi x6), (7, zi x7)]) dX8_best_46 (by decide) rfl) ?_
    refine zst_ (gj_sub [1, 2, 3, 4, 5, 6, 0] rfl) ?_
    exact fun h => w_X8_best_48 x0 x1 x4 x5 x6 x7 0 σ2 h hk
theorem w_X8_best_36 {g : zG} {lv : Nat} {out : zO} (x0 x1 x4 x5 x6 x7 : Int) (σ : zM) {r : zO} (h : f_X8_best_36 x0 x1 x4 x5 x6 x7 σ = some r) (hk : (fun o : zO => o = out) r) : Gj g MX8_best (lv + 1) 36 [(0, zr x0), (1, zj x1), (4, zi x4), (5, zi x5), (6, zi x6), (7, zi x7)] [] σ out :=
  gj_loop (P := (fun s : Int × Int × zM => Gj g MX8_best (lv + 1) 36 [(0, zr x0), (1, zj x1), (4, zi s.1), (5, zi x5), (6, zi x6), (7, zi s.2.1)] [] s.2.2 out)) (fun s x hb hx => w_X8_best_36_b x0 x1 s.1 x5 x6 s.2.1 s.2.2 hb hx) h hk
noncomputable def f_X8_best (x0 x1 x3 : Int) (σ : zM) : Option zO :=
  (zgf σ 800 x0).bind fun v1 =>
  (zgf σ 217 v1).bind fun v2 =>
  (zga σ 101 v2 x3).bind fun v3 =>
  zlet ((zmul 8 v3)) fun y4 =>
  (zgf σ 800 x0).bind fun v5 =>
  (zgf σ 216 v5).bind fun v6 =>
  (zga σ 101 v6 x3).bind fun v7 =>
  zlet ((zmul 8 v7)) fun y8 =>
  f_X8_best_36 x0 x1 30000 y4 y8 0 σ
theorem c_X8_best {g : zG} {lv : Nat} {x0 x1 x3 : Int} {σ : zM} {out : zO} (h : f_X8_best x0 x1 x3 σ = some out) : Cj g (lv + 1) MX8_best [zr x0, zj x1, zi x3] σ out := by
  refine cj_go (ls := [(0, zr x0), (1, zj x1), (3, zi x3)]) (by decide) (Nat.le_of_ble_eq_true rfl) rfl (zgen h (fun r hk => ?_))
  unfold f_X8_best
  refine zst_ (gj_sipush (pc := 0) dX8_best_0 ⟨rfl, by decide⟩) ?_
  refine zst_ (gj_istore (pc := 3) (ls' := [(4, zi 30000), (0, zr x0), (1, zj x1), (3, zi x3)]) dX8_best_3 (by decide) rfl) ?_
  refine zst_ (gj_bipush (pc := 5) dX8_best_5 ⟨rfl, by decide⟩) ?_
  refine zst_ (gj_aload_n 1 (pc := 7) dX8_best_7 rfl) ?_
  refine gb_get (pc := 8) fl800 dX8_best_8 q765 (Or.inl rfl) (fun v1 => ?_)
  refine gb_getNe (pc := 11) fl217 dX8_best_11 q306 (Or.inl rfl) (fun v2 => ?_)
  refine zst_ (gj_iload_n 3 (pc := 14) dX8_best_14 rfl) ?_
  refine gb_iald (pc := 15) dX8_best_15 (fun v3 => ?_)
  refine zst_ (gj_imul (pc := 16) dX8_best_16) ?_
  refine gb_let (fun y4 => ?_)
  refine zst_ (gj_istore (pc := 17) (ls' := [(5, zi y4), (4, zi 30000), (0, zr x0), (1, zj x1), (3, zi x3)]) dX8_best_17 (by decide) rfl) ?_
  refine zst_ (gj_bipush (pc := 19) dX8_best_19 ⟨rfl, by decide⟩) ?_
  refine zst_ (gj_aload_n 2 (pc := 21) dX8_best_21 rfl) ?_
  refine gb_get (pc := 22) fl800 dX8_best_22 q765 (Or.inl rfl) (fun v5 => ?_)
  refine gb_getNe (pc := 25) fl216 dX8_best_25 q304 (Or.inl rfl) (fun v6 => ?_)
  refine zst_ (gj_iload_n 4 (pc := 28) dX8_best_28 rfl) ?_
  refine gb_iald (pc := 29) dX8_best_29 (fun v7 => ?_)
  refine zst_ (gj_imul (pc := 30) dX8_best_30) ?_
  refine gb_let (fun y8 => ?_)
  refine zst_ (gj_istore (pc := 31) (ls' := [(6, zi y8), (5, zi y4), (4, zi 30000), (0, zr x0), (1, zj x1), (3, zi x3)]) dX8_best_31 (by decide) rfl) ?_
  refine zst_ (gj_iconst (pc := 33) dX8_best_33 (by decide)) ?_
  refine zst_ (gj_istore (pc := 34) (ls' := [(7, zi 0), (6, zi y8), (5, zi y4), (4, zi 30000), (0, zr x0), (1, zj x1), (3, zi x3)]) dX8_best_34 (by decide) rfl) ?_
  refine zst_ (gj_sub [4, 5, 3, 2, 1, 0] rfl) ?_
  exact fun h => w_X8_best_36 x0 x1 30000 y4 y8 0 σ h hk
theorem q1803 : (Jvm.Cond.code ({ cls := "LassoFinder$Search", name := "led", desc := "(JII)J" } : Jvm.MethodName) prog_18_method_16_code (12 : Nat) (Option.some Jvm.ClassFile.FieldType.long)) ∈ lw_all := lw_g (lw_at lw_m8 23 rfl) rfl
abbrev cX8_led : ByteArray := prog_18_method_16_code
def yX8_led : MethodName := ⟨RX8, "led", "(JII)J"⟩
theorem dX8_led_0 : decode cX8_led 0 = .ok (.lconst 0, 1) := by decide +kernel
theorem dX8_led_1 : decode cX8_led 1 = .ok (.lstore 5, 2) := by decide +kernel
theorem dX8_led_3 : decode cX8_led 3 = .ok (.bipush 8, 2) := by decide +kernel
theorem dX8_led_5 : decode cX8_led 5 = .ok (.aload_n 0, 1) := by decide +kernel
theorem dX8_led_6 : decode cX8_led 6 = .ok (.getfield 64, 3) := by decide +kernel
theorem dX8_led_9 : decode cX8_led 9 = .ok (.getfield 106, 3) := by decide +kernel
theorem dX8_led_12 : decode cX8_led 12 = .ok (.iload_n 3, 1) := by decide +kernel
theorem dX8_led_13 : decode cX8_led 13 = .ok (.iaload, 1) := by decide +kernel
theorem dX8_led_14 : decode cX8_led 14 = .ok (.imul, 1) := by decide +kernel
theorem dX8_led_15 : decode cX8_led 15 = .ok (.istore 7, 2) := by decide +kernel
theorem dX8_led_17 : decode cX8_led 17 = .ok (.bipush 8, 2) := by decide +kernel
theorem dX8_led_19 : decode cX8_led 19 = .ok (.aload_n 0, 1) := by decide +kernel
theorem dX8_led_20 : decode cX8_led 20 = .ok (.getfield 64, 3) := by decide +kernel
theorem dX8_led_23 : decode cX8_led 23 = .ok (.getfield 144, 3) := by decide +kernel
theorem dX8_led_26 : decode cX8_led 26 = .ok (.iload_n 3, 1) := by decide +kernel
theorem dX8_led_27 : decode cX8_led 27 = .ok (.iaload, 1) := by decide +kernel
theorem dX8_led_28 : decode cX8_led 28 = .ok (.imul, 1) := by decide +kernel
theorem dX8_led_29 : decode cX8_led 29 = .ok (.istore 8, 2) := by decide +kernel
theorem dX8_led_31 : decode cX8_led 31 = .ok (.iconst 0, 1) := by decide +kernel
theorem dX8_led_32 : decode cX8_led 32 = .ok (.istore 9, 2) := by decide +kernel
theorem dX8_led_34 : decode cX8_led 34 = .ok (.iload 9, 2) := by decide +kernel
theorem dX8_led_36 : decode cX8_led 36 = .ok (.aload_n 0, 1) := by decide +kernel
theorem dX8_led_37 : decode cX8_led 37 = .ok (.invokevirtual 93, 3) := by decide +kernel
theorem dX8_led_40 : decode cX8_led 40 = .ok (.if_icmp .ge 103, 3) := by decide +kernel
theorem dX8_led_43 : decode cX8_led 43 = .ok (.iconst 0, 1) := by decide +kernel
theorem dX8_led_44 : decode cX8_led 44 = .ok (.istore 10, 2) := by decide +kernel
theorem dX8_led_46 : decode cX8_led 46 = .ok (.iload 10, 2) := by decide +kernel
theorem dX8_led_48 : decode cX8_led 48 = .ok (.aload_n 0, 1) := by decide +kernel
theorem dX8_led_49 : decode cX8_led 49 = .ok (.invokevirtual 93, 3) := by decide +kernel
theorem dX8_led_52 : decode cX8_led 52 = .ok (.if_icmp .ge 85, 3) := by decide +kernel
theorem dX8_led_55 : decode cX8_led 55 = .ok (.iload 10, 2) := by decide +kernel
theorem dX8_led_57 : decode cX8_led 57 = .ok (.aload_n 0, 1) := by decide +kernel
theorem dX8_led_58 : decode cX8_led 58 = .ok (.getfield 18, 3) := by decide +kernel
theorem dX8_led_61 : decode cX8_led 61 = .ok (.iload 7, 2) := by decide +kernel
theorem dX8_led_63 : decode cX8_led 63 = .ok (.iload 9, 2) := by decide +kernel
theorem dX8_led_65 : decode cX8_led 65 = .ok (.iadd, 1) := by decide +kernel
theorem dX8_led_66 : decode cX8_led 66 = .ok (.iaload, 1) := by decide +kernel
theorem dX8_led_67 : decode cX8_led 67 = .ok (.ior, 1) := by decide +kernel
theorem dX8_led_68 : decode cX8_led 68 = .ok (.istore 11, 2) := by decide +kernel
theorem dX8_led_70 : decode cX8_led 70 = .ok (.lload_n 1, 1) := by decide +kernel
theorem dX8_led_71 : decode cX8_led 71 = .ok (.bipush 8, 2) := by decide +kernel
theorem dX8_led_73 : decode cX8_led 73 = .ok (.aload_n 0, 1) := by decide +kernel
theorem dX8_led_74 : decode cX8_led 74 = .ok (.getfield 15, 3) := by decide +kernel
theorem dX8_led_77 : decode cX8_led 77 = .ok (.iload 8, 2) := by decide +kernel
theorem dX8_led_79 : decode cX8_led 79 = .ok (.iload 9, 2) := by decide +kernel
theorem dX8_led_81 : decode cX8_led 81 = .ok (.iadd, 1) := by decide +kernel
theorem dX8_led_82 : decode cX8_led 82 = .ok (.iaload, 1) := by decide +kernel
theorem dX8_led_83 : decode cX8_led 83 = .ok (.imul, 1) := by decide +kernel
theorem dX8_led_84 : decode cX8_led 84 = .ok (.iload 10, 2) := by decide +kernel
theorem dX8_led_86 : decode cX8_led 86 = .ok (.iadd, 1) := by decide +kernel
theorem dX8_led_87 : decode cX8_led 87 = .ok (.lshr, 1) := by decide +kernel
theorem dX8_led_88 : decode cX8_led 88 = .ok (.lconst 1, 1) := by decide +kernel
theorem dX8_led_89 : decode cX8_led 89 = .ok (.land, 1) := by decide +kernel
theorem dX8_led_90 : decode cX8_led 90 = .ok (.lconst 1, 1) := by decide +kernel
theorem dX8_led_91 : decode cX8_led 91 = .ok (.lcmp, 1) := by decide +kernel
theorem dX8_led_92 : decode cX8_led 92 = .ok (.ifCond .ne 39, 3) := by decide +kernel
theorem dX8_led_95 : decode cX8_led 95 = .ok (.aload_n 0, 1) := by decide +kernel
theorem dX8_led_96 : decode cX8_led 96 = .ok (.getfield 49, 3) := by decide +kernel
theorem dX8_led_99 : decode cX8_led 99 = .ok (.bipush 8, 2) := by decide +kernel
theorem dX8_led_101 : decode cX8_led 101 = .ok (.iload 7, 2) := by decide +kernel
theorem dX8_led_103 : decode cX8_led 103 = .ok (.iload 9, 2) := by decide +kernel
theorem dX8_led_105 : decode cX8_led 105 = .ok (.iadd, 1) := by decide +kernel
theorem dX8_led_106 : decode cX8_led 106 = .ok (.imul, 1) := by decide +kernel
theorem dX8_led_107 : decode cX8_led 107 = .ok (.iload 11, 2) := by decide +kernel
theorem dX8_led_109 : decode cX8_led 109 = .ok (.iadd, 1) := by decide +kernel
theorem dX8_led_110 : decode cX8_led 110 = .ok (.iaload, 1) := by decide +kernel
theorem dX8_led_111 : decode cX8_led 111 = .ok (.iload 4, 2) := by decide +kernel
theorem dX8_led_113 : decode cX8_led 113 = .ok (.if_icmp .ne 18, 3) := by decide +kernel
theorem dX8_led_116 : decode cX8_led 116 = .ok (.lload 5, 2) := by decide +kernel
theorem dX8_led_118 : decode cX8_led 118 = .ok (.lconst 1, 1) := by decide +kernel
theorem dX8_led_119 : decode cX8_led 119 = .ok (.bipush 8, 2) := by decide +kernel
theorem dX8_led_121 : decode cX8_led 121 = .ok (.iload 9, 2) := by decide +kernel
theorem dX8_led_123 : decode cX8_led 123 = .ok (.imul, 1) := by decide +kernel
theorem dX8_led_124 : decode cX8_led 124 = .ok (.iload 11, 2) := by decide +kernel
theorem dX8_led_126 : decode cX8_led 126 = .ok (.iadd, 1) := by decide +kernel
theorem dX8_led_127 : decode cX8_led 127 = .ok (.lshl, 1) := by decide +kernel
theorem dX8_led_128 : decode cX8_led 128 = .ok (.lor, 1) := by decide +kernel
theorem dX8_led_129 : decode cX8_led 129 = .ok (.lstore 5, 2) := by decide +kernel
theorem dX8_led_131 : decode cX8_led 131 = .ok (.iinc 10 1, 3) := by decide +kernel
theorem dX8_led_134 : decode cX8_led 134 = .ok (.goto (-88), 3) := by decide +kernel
theorem dX8_led_137 : decode cX8_led 137 = .ok (.iinc 9 1, 3) := by decide +kernel
theorem dX8_led_140 : decode cX8_led 140 = .ok (.goto (-106), 3) := by decide +kernel
theorem dX8_led_143 : decode cX8_led 143 = .ok (.lload 5, 2) := by decide +kernel
theorem dX8_led_145 : decode cX8_led 145 = .ok (.lreturn, 1) := by decide +kernel
abbrev MX8_led : zT := (yX8_led, cX8_led, 12, (Option.some Jvm.ClassFile.FieldType.long), [])
theorem plX8_led : zplain MX8_led 3 ∧ (zcodeW MX8_led ∈ lw_all ∧ Cond.initialized MX8_led.1.cls ∈ lw_all) := ⟨⟨by decide +kernel, by decide +kernel⟩, q1803, q126⟩
noncomputable def f_X8_led_143 (x5 : Int) (σ : zM) : Option zO :=
  some (0, zj x5, σ)
theorem w_X8_led_143 {g : zG} {lv : Nat} {out : zO} (x5 : Int) (σ : zM) {r : zO} (h : f_X8_led_143 x5 σ = some r) (hk : (fun o : zO => o = out) r) : Gj g MX8_led (lv + 1) 143 [(5, zj x5)] [] σ out := by
  revert h
  unfold f_X8_led_143
  refine zst_ (gj_lload 0 (pc := 143) dX8_led_143 rfl) ?_
  intro h
  cases h
  have hk : (0, zj x5, σ) = out := hk
  subst hk
  exact gj_lret (pc := 145) dX8_led_145 rfl
noncomputable def f_X8_led_137 (x0 x1 x4 x5 x7 x8 x9 : Int) (σ : zM) : Option ((Int × Int × zM) ⊕ zO) :=
  zlet (zadd x9 1) fun y1 =>
  some (.inl (x5, y1, σ))
theorem w_X8_led_137 {g : zG} {lv : Nat} {out : zO} (x0 x1 x4 x5 x7 x8 x9 : Int) (σ : zM) {r : ((Int × Int × zM) ⊕ zO)} (h : f_X8_led_137 x0 x1 x4 x5 x7 x8 x9 σ = some r) (hk : (zKL (fun s : Int × Int × zM => Gj g MX8_led (lv + 1) 34 [(0, zr x0), (1, zj x1), (4, zi x4), (5, zj s.1), (7, zi x7), (8, zi x8), (9, zi s.2.1)] [] s.2.2 out) (fun o : zO => o = out)) r) : Gj g MX8_led (lv + 1) 137 [(0, zr x0), (1, zj x1), (4, zi x4), (5, zj x5), (7, zi x7), (8, zi x8), (9, zi x9)] [] σ out := by
  revert h
  unfold f_X8_led_137
  refine gb_iinc (pc := 137) 6 (fun y1 => [(9, zi y1), (0, zr x0), (1, zj x1), (4, zi x4), (5, zj x5), (7, zi x7), (8, zi x8)]) dX8_led_137 rfl (by decide) (fun _ => rfl) (fun y1 => ?_)
  refine zst_ (gj_goto 34 (pc := 140) dX8_led_140 (by decide)) ?_
  refine zst_ (gj_sub [1, 2, 3, 4, 5, 6, 0] rfl) ?_
  intro h
  cases h
  exact hk
noncomputable def f_X8_led_131 (x0 x1 x4 x5 x7 x8 x9 x10 : Int) (σ : zM) : Option ((Int × Int × zM) ⊕ ((Int × Int × zM) ⊕ zO)) :=
  zlet (zadd x10 1) fun y1 =>
  some (.inl (x5, y1, σ))
theorem w_X8_led_131 {g : zG} {lv : Nat} {out : zO} (x0 x1 x4 x5 x7 x8 x9 x10 : Int) (σ : zM) {r : ((Int × Int × zM) ⊕ ((Int × Int × zM) ⊕ zO))} (h : f_X8_led_131 x0 x1 x4 x5 x7 x8 x9 x10 σ = some r) (hk : (zKL (fun s : Int × Int × zM => Gj g MX8_led (lv + 1) 46 [(0, zr x0), (1, zj x1), (4, zi x4), (5, zj s.1), (7, zi x7), (8, zi x8), (9, zi x9), (10, zi s.2.1)] [] s.2.2 out) (zKL (fun s : Int × Int × zM => Gj g MX8_led (lv + 1) 34 [(0, zr x0), (1, zj x1), (4, zi x4), (5, zj s.1), (7, zi x7), (8, zi x8), (9, zi s.2.1)] [] s.2.2 out) (fun o : zO => o = out))) r) : Gj g MX8_led (lv + 1) 131 [(0, zr x0), (1, zj x1), (4, zi x4), (5, zj x5), (7, zi x7), (8, zi x8), (9, zi x9), (10, zi x10)] [] σ out := by
  revert h
  unfold f_X8_led_131
  refine gb_iinc (pc := 131) 7 (fun y1 => [(10, zi y1), (0, zr x0), (1, zj x1), (4, zi x4), (5, zj x5), (7, zi x7), (8, zi x8), (9, zi x9)]) dX8_led_131 rfl (by decide) (fun _ => rfl) (fun y1 => ?_)
  refine zst_ (gj_goto 46 (pc := 134) dX8_led_134 (by decide)) ?_
  refine zst_ (gj_sub [1, 2, 3, 4, 5, 6, 7, 0] rfl) ?_
  intro h
  cases h
  exact hk
noncomputable def f_X8_led_46_b (x0 x1 x4 x5 x7 x8 x9 x10 : Int) (σ : zM) : Option ((Int × Int × zM) ⊕ ((Int × Int × zM) ⊕ zO)) :=
  zgd (zis σ 9 x0) <|
  zci (f_X8_kinds x0 σ) fun v1 σ2 =>
  if v1 ≤ x10 then
    (f_X8_led_137 x0 x1 x4 x5 x7 x8 x9 σ2).map (fun r => (.inr r))
  else
    (zgf σ2 804 x0).bind fun v3 =>
    (zga σ2 101 v3 (zadd x7 x9)).bind fun v4 =>
    zlet ((zor x10 v4)) fun y5 =>
    (zgf σ2 803 x0).bind fun v6 =>
    (zga σ2 101 v6 (zadd x8 x9)).bind fun v7 =>
    if (zlcmp (jand (jshr x1 (zadd (zmul 8 v7) x10)) 1) 1) ≠ 0 then
      f_X8_led_131 x0 x1 x4 x5 x7 x8 x9 x10 σ2
    else
      (zgf σ2 816 x0).bind fun v8 =>
      (zga σ2 101 v8 (zadd (zmul 8 (zadd x7 x9)) y5)).bind fun v9 =>
      if v9 ≠ x4 then
        f_X8_led_131 x0 x1 x4 x5 x7 x8 x9 x10 σ2
      else
        zlet ((jor x5 (jshl 1 (zadd (zmul 8 x9) y5)))) fun y10 =>
        f_X8_led_131 x0 x1 x4 y10 x7 x8 x9 x10 σ2
noncomputable def f_X8_led_46 (x0 x1 x4 x5 x7 x8 x9 x10 : Int) (σ : zM) : Option ((Int × Int × zM) ⊕ zO) :=
  zloop (fun s : Int × Int × zM => f_X8_led_46_b x0 x1 x4 s.1 x7 x8 x9 s.2.1 s.2.2) (x5, x10, σ)
theorem w_X8_led_46_b {g : zG} {lv : Nat} {out : zO} (x0 x1 x4 x5 x7 x8 x9 x10 : Int) (σ : zM) {r : ((Int × Int × zM) ⊕ ((Int × Int × zM) ⊕ zO))} (h : f_X8_led_46_b x0 x1 x4 x5 x7 x8 x9 x10 σ = some r) (hk : (zKL (fun s : Int × Int × zM => Gj g MX8_led (lv + 1) 46 [(0, zr x0), (1, zj x1), (4, zi x4), (5, zj s.1), (7, zi x7), (8, zi x8), (9, zi x9), (10, zi s.2.1)] [] s.2.2 out) (zKL (fun s : Int × Int × zM => Gj g MX8_led (lv + 1) 34 [(0, zr x0), (1, zj x1), (4, zi x4), (5, zj s.1), (7, zi x7), (8, zi x8), (9, zi s.2.1)] [] s.2.2 out) (fun o : zO => o = out))) r) : Gj g MX8_led (lv + 1) 46 [(0, zr x0), (1, zj x1), (4, zi x4), (5, zj x5), (7, zi x7), (8, zi x8), (9, zi x9), (10, zi x10)] [] σ out := by
  revert h
  unfold f_X8_led_46_b
  refine zst_ (gj_iload 7 (pc := 46) dX8_led_46 rfl) ?_
  refine zst_ (gj_aload_n 0 (pc := 48) dX8_led_48 rfl) ?_
  refine gb_gd (fun hb => ?_)
  refine gb_callI (pc := 49) (as := [zr x0]) (rest := [zi x10]) (zCl.of (zLk_V (M := MX8_led) (ci := 8) (r := (RX8, TX8, 23)) plX8_kinds.1 rfl rfl (zisE hb).1 (zisE hb).2 dX8_led_49 q1699 q1701 qs30 q1702) plX8_kinds (Nat.le_of_ble_eq_true rfl) (fun h => c_X8_kinds h)) (fun v1 σ2 => ?_)
  refine gb_if (gj_icmp_ge 137 (pc := 52) dX8_led_52 (by decide)) ?_ ?_
  · refine zst_ (gj_sub [0, 1, 2, 3, 4, 5, 6] rfl) ?_
    intro h
    obtain ⟨r0, h0, rfl⟩ := zmE h
    exact w_X8_led_137 x0 x1 x4 x5 x7 x8 x9 σ2 h0 hk
  · refine zst_ (gj_iload 7 (pc := 55) dX8_led_55 rfl) ?_
    refine zst_ (gj_aload_n 0 (pc := 57) dX8_led_57 rfl) ?_
    refine gb_get (pc := 58) fl804 dX8_led_58 q769 (Or.inl rfl) (fun v3 => ?_)
    refine zst_ (gj_iload 4 (pc := 61) dX8_led_61 rfl) ?_
    refine zst_ (gj_iload 6 (pc := 63) dX8_led_63 rfl) ?_
    refine zst_ (gj_iadd (pc := 65) dX8_led_65) ?_
    refine gb_iald (pc := 66) dX8_led_66 (fun v4 => ?_)
    refine zst_ (gj_ior (pc := 67) dX8_led_67) ?_
    refine gb_let (fun y5 => ?_)
    refine zst_ (gj_istore (pc := 68) (ls' := [(11, zi y5), (0, zr x0), (1, zj x1), (4, zi x4), (5, zj x5), (7, zi x7), (8, zi x8), (9, zi x9), (10, zi x10)]) dX8_led_68 (by decide) rfl) ?_
    refine zst_ (gj_lload_n 2 (pc := 70) dX8_led_70 rfl) ?_
    refine zst_ (gj_bipush (pc := 71) dX8_led_71 ⟨rfl, by decide⟩) ?_
    refine zst_ (gj_aload_n 1 (pc := 73) dX8_led_73 rfl) ?_
    refine gb_get (pc := 74) fl803 dX8_led_74 q768 (Or.inl rfl) (fun v6 => ?_)
    refine zst_ (gj_iload 6 (pc := 77) dX8_led_77 rfl) ?_
    refine zst_ (gj_iload 7 (pc := 79) dX8_led_79 rfl) ?_
    refine zst_ (gj_iadd (pc := 81) dX8_led_81) ?_
    refine gb_iald (pc := 82) dX8_led_82 (fun v7 => ?_)
    refine zst_ (gj_imul (pc := 83) dX8_led_83) ?_
    refine zst_ (gj_iload 8 (pc := 84) dX8_led_84 rfl) ?_
    refine zst_ (gj_iadd (pc := 86) dX8_led_86) ?_
    refine zst_ (gj_lshr (pc := 87) dX8_led_87) ?_
    refine zst_ (gj_lconst1 (pc := 88) dX8_led_88) ?_
    refine zst_ (gj_land (pc := 89) dX8_led_89) ?_
    refine zst_ (gj_lconst1 (pc := 90) dX8_led_90) ?_
    refine zst_ (gj_lcmp (pc := 91) dX8_led_91) ?_
    refine gb_if (gj_if_ne 131 (pc := 92) dX8_led_92 (by decide)) ?_ ?_
    · refine zst_ (gj_sub [1, 2, 3, 4, 5, 6, 7, 8] rfl) ?_
      exact fun h => w_X8_led_131 x0 x1 x4 x5 x7 x8 x9 x10 σ2 h hk
    · refine zst_ (gj_aload_n 1 (pc := 95) dX8_led_95 rfl) ?_
      refine gb_get (pc := 96) fl816 dX8_led_96 q781 (Or.inl rfl) (fun v8 => ?_)
      refine zst_ (gj_bipush (pc := 99) dX8_led_99 ⟨rfl, by decide⟩) ?_
      refine zst_ (gj_iload 5 (pc := 101) dX8_led_101 rfl) ?_
      refine zst_ (gj_iload 7 (pc := 103) dX8_led_103 rfl) ?_
      refine zst_ (gj_iadd (pc := 105) dX8_led_105) ?_
      refine zst_ (gj_imul (pc := 106) dX8_led_106) ?_
      refine zst_ (gj_iload 0 (pc := 107) dX8_led_107 rfl) ?_
      refine zst_ (gj_iadd (pc := 109) dX8_led_109) ?_
      refine gb_iald (pc := 110) dX8_led_110 (fun v9 => ?_)
      refine zst_ (gj_iload 3 (pc := 111) dX8_led_111 rfl) ?_
      refine gb_if (gj_icmp_ne 131 (pc := 113) dX8_led_113 (by decide)) ?_ ?_
      · refine zst_ (gj_sub [1, 2, 3, 4, 5, 6, 7, 8] rfl) ?_
        exact fun h => w_X8_led_131 x0 x1 x4 x5 x7 x8 x9 x10 σ2 h hk
      · refine zst_ (gj_lload 4 (pc := 116) dX8_led_116 rfl) ?_
        refine zst_ (gj_lconst1 (pc := 118) dX8_led_118) ?_
        refine zst_ (gj_bipush (pc := 119) dX8_led_119 ⟨rfl, by decide⟩) ?_
        refine zst_ (gj_iload 7 (pc := 121) dX8_led_121 rfl) ?_
        refine zst_ (gj_imul (pc := 123) dX8_led_123) ?_
        refine zst_ (gj_iload 0 (pc := 124) dX8_led_124 rfl) ?_
        refine zst_ (gj_iadd (pc := 126) dX8_led_126) ?_
        refine zst_ (gj_lshl (pc := 127) dX8_led_127) ?_
        refine zst_ (gj_lor (pc := 128) dX8_led_128) ?_
        refine gb_let (fun y10 => ?_)
        refine zst_ (gj_lstore (pc := 129) (ls' := [(5, zj y10), (11, zi y5), (0, zr x0), (1, zj x1), (4, zi x4), (7, zi x7), (8, zi x8), (9, zi x9), (10, zi x10)]) dX8_led_129 (by decide) rfl) ?_
        refine zst_ (gj_sub [2, 3, 4, 0, 5, 6, 7, 8] rfl) ?_
        exact fun h => w_X8_led_131 x0 x1 x4 y10 x7 x8 x9 x10 σ2 h hk
theorem w_X8_led_46 {g : zG} {lv : Nat} {out : zO} (x0 x1 x4 x5 x7 x8 x9 x10 : Int) (σ : zM) {r : ((Int × Int × zM) ⊕ zO)} (h : f_X8_led_46 x0 x1 x4 x5 x7 x8 x9 x10 σ = some r) (hk : (zKL (fun s : Int × Int × zM => Gj g MX8_led (lv + 1) 34 [(0, zr x0), (1, zj x1), (4, zi x4), (5, zj s.1), (7, zi x7), (8, zi x8), (9, zi s.2.1)] [] s.2.2 out) (fun o : zO => o = out)) r) : Gj g MX8_led (lv + 1) 46 [(0, zr x0), (1, zj x1), (4, zi x4), (5, zj x5), (7, zi x7), (8, zi x8), (9, zi x9), (10, zi x10)] [] σ out :=
  gj_loop (P := (fun s : Int × Int × zM => Gj g MX8_led (lv + 1) 46 [(0, zr x0), (1, zj x1), (4, zi x4), (5, zj s.1), (7, zi x7), (8, zi x8), (9, zi x9), (10, zi s.2.1)] [] s.2.2 out)) (fun s x hb hx => w_X8_led_46_b x0 x1 x4 s.1 x7 x8 x9 s.2.1 s.2.2 hb hx) h hk
noncomputable def f_X8_led_34_b (x0 x1 x4 x5 x7 x8 x9 : Int) (σ : zM) : Option ((Int × Int × zM) ⊕ zO) :=
  zgd (zis σ 9 x0) <|
  zci (f_X8_kinds x0 σ) fun v1 σ2 =>
  if v1 ≤ x9 then
    (f_X8_led_143 x5 σ2).map (fun r => (.inr r))
  else
    f_X8_led_46 x0 x1 x4 x5 x7 x8 x9 0 σ2
noncomputable def f_X8_led_34 (x0 x1 x4 x5 x7 x8 x9 : Int) (σ : zM) : Option zO :=
  zloop (fun s : Int × Int × zM => f_X8_led_34_b x0 x1 x4 s.1 x7 x8 s.2.1 s.2.2) (x5, x9, σ)
theorem w_X8_led_34_b {g : zG} {lv : Nat} {out : zO} (x0 x1 x4 x5 x7 x8 x9 : Int) (σ : zM) {r : ((Int × Int × zM) ⊕ zO)} (h : f_X8_led_34_b x0 x1 x4 x5 x7 x8 x9 σ = some r) (hk : (zKL (fun s : Int × Int × zM => Gj g MX8_led (lv + 1) 34 [(0, zr x0), (1, zj x1), (4, zi x4), (5, zj s.1), (7, zi x7), (8, zi x8), (9, zi s.2.1)] [] s.2.2 out) (fun o : zO => o = out)) r) : Gj g MX8_led (lv + 1) 34 [(0, zr x0), (1, zj x1), (4, zi x4), (5, zj x5), (7, zi x7), (8, zi x8), (9, zi x9)] [] σ out := by
  revert h
  unfold f_X8_led_34_b
  refine zst_ (gj_iload 6 (pc := 34) dX8_led_34 rfl) ?_
  refine zst_ (gj_aload_n 0 (pc := 36) dX8_led_36 rfl) ?_
  refine gb_gd (fun hb => ?_)
  refine gb_callI (pc := 37) (as := [zr x0]) (rest := [zi x9]) (zCl.of (zLk_V (M := MX8_led) (ci := 8) (r := (RX8, TX8, 23)) plX8_kinds.1 rfl rfl (zisE hb).1 (zisE hb).2 dX8_led_37 q1699 q1701 qs30 q1702) plX8_kinds (Nat.le_of_ble_eq_true rfl) (fun h => c_X8_kinds h)) (fun v1 σ2 => ?_)
  refine gb_if (gj_icmp_ge 143 (pc := 40) dX8_led_40 (by decide)) ?_ ?_
  · refine zst_ (gj_sub [3] rfl) ?_
    intro h
    obtain ⟨r0, h0, rfl⟩ := zmE h
    exact w_X8_led_143 x5 σ2 h0 hk
  · refine zst_ (gj_iconst (pc := 43) dX8_led_43 (by decide)) ?_
    refine zst_ (gj_istore (pc := 44) (ls' := [(10, zi 0), (0, zr x0), (1, zj x1), (4, zi x4), (5, zj x5), (7, zi x7), (8, zi x8), (9, zi x9)]) dX8_led_44 (by decide) rfl) ?_
    refine zst_ (gj_sub [1, 2, 3, 4, 5, 6, 7, 0] rfl) ?_
    exact fun h => w_X8_led_46 x0 x1 x4 x5 x7 x8 x9 0 σ2 h hk
theorem w_X8_led_34 {g : zG} {lv : Nat} {out : zO} (x0 x1 x4 x5 x7 x8 x9 : Int) (σ : zM) {r : zO} (h : f_X8_led_34 x0 x1 x4 x5 x7 x8 x9 σ = some r) (hk : (fun o : zO => o = out) r) : Gj g MX8_led (lv + 1) 34 [(0, zr x0), (1, zj x1), (4, zi x4), (5, zj x5), (7, zi x7), (8, zi x8), (9, zi x9)] [] σ out :=
  gj_loop (P := (fun s : Int × Int × zM => Gj g MX8_led (lv + 1) 34 [(0, zr x0), (1, zj x1), (4, zi x4), (5, zj s.1), (7, zi x7), (8, zi x8), (9, zi s.2.1)] [] s.2.2 out)) (fun s x hb hx => w_X8_led_34_b x0 x1 x4 s.1 x7 x8 s.2.1 s.2.2 hb hx) h hk
noncomputable def f_X8_led (x0 x1 x3 x4 : Int) (σ : zM) : Option zO :=
  (zgf σ 800 x0).bind fun v1 =>
  (zgf σ 217 v1).bind fun v2 =>
  (zga σ 101 v2 x3).bind fun v3 =>
  zlet ((zmul 8 v3)) fun y4 =>
  (zgf σ 800 x0).bind fun v5 =>
  (zgf σ 216 v5).bind fun v6 =>
  (zga σ 101 v6 x3).bind fun v7 =>
  zlet ((zmul 8 v7)) fun y8 =>
  f_X8_led_34 x0 x1 x4 0 y4 y8 0 σ
theorem c_X8_led {g : zG} {lv : Nat} {x0 x1 x3 x4 : Int} {σ : zM} {out : zO} (h : f_X8_led x0 x1 x3 x4 σ = some out) : Cj g (lv + 1) MX8_led [zr x0, zj x1, zi x3, zi x4] σ out := by
  refine cj_go (ls := [(0, zr x0), (1, zj x1), (3, zi x3), (4, zi x4)]) (by decide) (Nat.le_of_ble_eq_true rfl) rfl (zgen h (fun r hk => ?_))
  unfold f_X8_led
  refine zst_ (gj_lconst0 (pc := 0) dX8_led_0) ?_
  refine zst_ (gj_lstore (pc := 1) (ls' := [(5, zj 0), (0, zr x0), (1, zj x1), (3, zi x3), (4, zi x4)]) dX8_led_1 (by decide) rfl) ?_
  refine zst_ (gj_bipush (pc := 3) dX8_led_3 ⟨rfl, by decide⟩) ?_
  refine zst_ (gj_aload_n 1 (pc := 5) dX8_led_5 rfl) ?_
  refine gb_get (pc := 6) fl800 dX8_led_6 q765 (Or.inl rfl) (fun v1 => ?_)
  refine gb_getNe (pc := 9) fl217 dX8_led_9 q306 (Or.inl rfl) (fun v2 => ?_)
  refine zst_ (gj_iload_n 3 (pc := 12) dX8_led_12 rfl) ?_
  refine gb_iald (pc := 13) dX8_led_13 (fun v3 => ?_)
  refine zst_ (gj_imul (pc := 14) dX8_led_14) ?_
  refine gb_let (fun y4 => ?_)
  refine zst_ (gj_istore (pc := 15) (ls' := [(7, zi y4), (5, zj 0), (0, zr x0), (1, zj x1), (3, zi x3), (4, zi x4)]) dX8_led_15 (by decide) rfl) ?_
  refine zst_ (gj_bipush (pc := 17) dX8_led_17 ⟨rfl, by decide⟩) ?_
  refine zst_ (gj_aload_n 2 (pc := 19) dX8_led_19 rfl) ?_
  refine gb_get (pc := 20) fl800 dX8_led_20 q765 (Or.inl rfl) (fun v5 => ?_)
  refine gb_getNe (pc := 23) fl216 dX8_led_23 q304 (Or.inl rfl) (fun v6 => ?_)
  refine zst_ (gj_iload_n 4 (pc := 26) dX8_led_26 rfl) ?_
  refine gb_iald (pc := 27) dX8_led_27 (fun v7 => ?_)
  refine zst_ (gj_imul (pc := 28) dX8_led_28) ?_
  refine gb_let (fun y8 => ?_)
  refine zst_ (gj_istore (pc := 29) (ls' := [(8, zi y8), (7, zi y4), (5, zj 0), (0, zr x0), (1, zj x1), (3, zi x3), (4, zi x4)]) dX8_led_29 (by decide) rfl) ?_
  refine zst_ (gj_iconst (pc := 31) dX8_led_31 (by decide)) ?_
  refine zst_ (gj_istore (pc := 32) (ls' := [(9, zi 0), (8, zi y8), (7, zi y4), (5, zj 0), (0, zr x0), (1, zj x1), (3, zi x3), (4, zi x4)]) dX8_led_32 (by decide) rfl) ?_
  refine zst_ (gj_sub [4, 5, 7, 3, 2, 1, 0] rfl) ?_
  exact fun h => w_X8_led_34 x0 x1 x4 0 y4 y8 0 σ h hk
theorem q785 : (Jvm.Cond.fieldLink "LassoFinder$Search" (58 : Nat) "LassoFinder$Search" "cycle" "[I") ∈ lw_all := lw_g (lw_at lw_m3 205 rfl) rfl
theorem q787 : (Jvm.Cond.fieldLink "LassoFinder$Search" (61 : Nat) "LassoFinder$Search" "trial" "[I") ∈ lw_all := lw_g (lw_at lw_m3 207 rfl) rfl
theorem q791 : (Jvm.Cond.fieldLink "LassoFinder$Search" (169 : Nat) "LassoFinder$Search" "cycles" "I") ∈ lw_all := lw_g (lw_at lw_m3 211 rfl) rfl
theorem q1791 : (Jvm.Cond.code ({ cls := "LassoFinder$Search", name := "turn", desc := "(II)V" } : Jvm.MethodName) prog_18_method_13_code (11 : Nat) (Option.none : Option Jvm.ClassFile.FieldType)) ∈ lw_all := lw_g (lw_at lw_m8 11 rfl) rfl
theorem q1792 : (Jvm.Cond.methodLink "LassoFinder$Search" (176 : Nat) ({ cls := "LassoFinder$Search", name := "unwind", desc := "(II)V" } : Jvm.MethodName)) ∈ lw_all := lw_g (lw_at lw_m8 12 rfl) rfl
theorem q1794 : (Jvm.Cond.instanceMethod ({ cls := "LassoFinder$Search", name := "unwind", desc := "(II)V" } : Jvm.MethodName)) ∈ lw_all := lw_g (lw_at lw_m8 14 rfl) rfl
theorem q1796 : (Jvm.Cond.methodLink "LassoFinder$Search" (179 : Nat) ({ cls := "LassoFinder$Search", name := "best", desc := "(JI)I" } : Jvm.MethodName)) ∈ lw_all := lw_g (lw_at lw_m8 16 rfl) rfl
theorem q1798 : (Jvm.Cond.instanceMethod ({ cls := "LassoFinder$Search", name := "best", desc := "(JI)I" } : Jvm.MethodName)) ∈ lw_all := lw_g (lw_at lw_m8 18 rfl) rfl
theorem q1800 : (Jvm.Cond.methodLink "LassoFinder$Search" (183 : Nat) ({ cls := "LassoFinder$Search", name := "led", desc := "(JII)J" } : Jvm.MethodName)) ∈ lw_all := lw_g (lw_at lw_m8 20 rfl) rfl
theorem q1802 : (Jvm.Cond.instanceMethod ({ cls := "LassoFinder$Search", name := "led", desc := "(JII)J" } : Jvm.MethodName)) ∈ lw_all := lw_g (lw_at lw_m8 22 rfl) rfl
theorem fl819 : zfl 819 2 "LassoFinder$Search" "cycle" "[I" true := ⟨rfl, rfl, rfl⟩
theorem fr819 {g : zG} {v : Int} : zok g (2, v) → zokt g (zft 819) v := fun h => h
theorem fl820 : zfl 820 2 "LassoFinder$Search" "trial" "[I" true := ⟨rfl, rfl, rfl⟩
theorem fr820 {g : zG} {v : Int} : zok g (2, v) → zokt g (zft 820) v := fun h => h
theorem fl822 : zfl 822 0 "LassoFinder$Search" "cycles" "I" false := ⟨rfl, rfl, rfl⟩
theorem fr822 {g : zG} {v : Int} : zok g (0, v) → zokt g (zft 822) v := fun h => h
abbrev cX8_turn : ByteArray := prog_18_method_13_code
def yX8_turn : MethodName := ⟨RX8, "turn", "(II)V"⟩
theorem dX8_turn_0 : decode cX8_turn 0 = .ok (.bipush 8, 2) := by decide +kernel
theorem dX8_turn_2 : decode cX8_turn 2 = .ok (.iload_n 1, 1) := by decide +kernel
theorem dX8_turn_3 : decode cX8_turn 3 = .ok (.imul, 1) := by decide +kernel
theorem dX8_turn_4 : decode cX8_turn 4 = .ok (.iload_n 2, 1) := by decide +kernel
theorem dX8_turn_5 : decode cX8_turn 5 = .ok (.iadd, 1) := by decide +kernel
theorem dX8_turn_6 : decode cX8_turn 6 = .ok (.istore_n 3, 1) := by decide +kernel
theorem dX8_turn_7 : decode cX8_turn 7 = .ok (.aload_n 0, 1) := by decide +kernel
theorem dX8_turn_8 : decode cX8_turn 8 = .ok (.invokevirtual 93, 3) := by decide +kernel
theorem dX8_turn_11 : decode cX8_turn 11 = .ok (.iconst 1, 1) := by decide +kernel
theorem dX8_turn_12 : decode cX8_turn 12 = .ok (.isub, 1) := by decide +kernel
theorem dX8_turn_13 : decode cX8_turn 13 = .ok (.istore 4, 2) := by decide +kernel
theorem dX8_turn_15 : decode cX8_turn 15 = .ok (.aload_n 0, 1) := by decide +kernel
theorem dX8_turn_16 : decode cX8_turn 16 = .ok (.iload_n 3, 1) := by decide +kernel
theorem dX8_turn_17 : decode cX8_turn 17 = .ok (.iload 4, 2) := by decide +kernel
theorem dX8_turn_19 : decode cX8_turn 19 = .ok (.invokevirtual 176, 3) := by decide +kernel
theorem dX8_turn_22 : decode cX8_turn 22 = .ok (.sipush 3840, 3) := by decide +kernel
theorem dX8_turn_25 : decode cX8_turn 25 = .ok (.istore 5, 2) := by decide +kernel
theorem dX8_turn_27 : decode cX8_turn 27 = .ok (.iload_n 1, 1) := by decide +kernel
theorem dX8_turn_28 : decode cX8_turn 28 = .ok (.istore 6, 2) := by decide +kernel
theorem dX8_turn_30 : decode cX8_turn 30 = .ok (.aload_n 0, 1) := by decide +kernel
theorem dX8_turn_31 : decode cX8_turn 31 = .ok (.getfield 64, 3) := by decide +kernel
theorem dX8_turn_34 : decode cX8_turn 34 = .ok (.getfield 113, 3) := by decide +kernel
theorem dX8_turn_37 : decode cX8_turn 37 = .ok (.iload_n 1, 1) := by decide +kernel
theorem dX8_turn_38 : decode cX8_turn 38 = .ok (.iaload, 1) := by decide +kernel
theorem dX8_turn_39 : decode cX8_turn 39 = .ok (.istore 7, 2) := by decide +kernel
theorem dX8_turn_41 : decode cX8_turn 41 = .ok (.iload 7, 2) := by decide +kernel
theorem dX8_turn_43 : decode cX8_turn 43 = .ok (.aload_n 0, 1) := by decide +kernel
theorem dX8_turn_44 : decode cX8_turn 44 = .ok (.getfield 64, 3) := by decide +kernel
theorem dX8_turn_47 : decode cX8_turn 47 = .ok (.getfield 113, 3) := by decide +kernel
theorem dX8_turn_50 : decode cX8_turn 50 = .ok (.iload_n 1, 1) := by decide +kernel
theorem dX8_turn_51 : decode cX8_turn 51 = .ok (.iconst 1, 1) := by decide +kernel
theorem dX8_turn_52 : decode cX8_turn 52 = .ok (.iadd, 1) := by decide +kernel
theorem dX8_turn_53 : decode cX8_turn 53 = .ok (.iaload, 1) := by decide +kernel
theorem dX8_turn_54 : decode cX8_turn 54 = .ok (.if_icmp .ge 37, 3) := by decide +kernel
theorem dX8_turn_57 : decode cX8_turn 57 = .ok (.iload 5, 2) := by decide +kernel
theorem dX8_turn_59 : decode cX8_turn 59 = .ok (.iconst 1, 1) := by decide +kernel
theorem dX8_turn_60 : decode cX8_turn 60 = .ok (.aload_n 0, 1) := by decide +kernel
theorem dX8_turn_61 : decode cX8_turn 61 = .ok (.lconst 1, 1) := by decide +kernel
theorem dX8_turn_62 : decode cX8_turn 62 = .ok (.bipush 8, 2) := by decide +kernel
theorem dX8_turn_64 : decode cX8_turn 64 = .ok (.iload_n 2, 1) := by decide +kernel
theorem dX8_turn_65 : decode cX8_turn 65 = .ok (.imul, 1) := by decide +kernel
theorem dX8_turn_66 : decode cX8_turn 66 = .ok (.aload_n 0, 1) := by decide +kernel
theorem dX8_turn_67 : decode cX8_turn 67 = .ok (.getfield 18, 3) := by decide +kernel
theorem dX8_turn_70 : decode cX8_turn 70 = .ok (.iload_n 3, 1) := by decide +kernel
theorem dX8_turn_71 : decode cX8_turn 71 = .ok (.iaload, 1) := by decide +kernel
theorem dX8_turn_72 : decode cX8_turn 72 = .ok (.iadd, 1) := by decide +kernel
theorem dX8_turn_73 : decode cX8_turn 73 = .ok (.lshl, 1) := by decide +kernel
theorem dX8_turn_74 : decode cX8_turn 74 = .ok (.iload 7, 2) := by decide +kernel
theorem dX8_turn_76 : decode cX8_turn 76 = .ok (.invokevirtual 179, 3) := by decide +kernel
theorem dX8_turn_79 : decode cX8_turn 79 = .ok (.iadd, 1) := by decide +kernel
theorem dX8_turn_80 : decode cX8_turn 80 = .ok (.invokestatic 132, 3) := by decide +kernel
theorem dX8_turn_83 : decode cX8_turn 83 = .ok (.istore 5, 2) := by decide +kernel
theorem dX8_turn_85 : decode cX8_turn 85 = .ok (.iinc 7 1, 3) := by decide +kernel
theorem dX8_turn_88 : decode cX8_turn 88 = .ok (.goto (-47), 3) := by decide +kernel
theorem dX8_turn_91 : decode cX8_turn 91 = .ok (.iload 5, 2) := by decide +kernel
theorem dX8_turn_93 : decode cX8_turn 93 = .ok (.aload_n 0, 1) := by decide +kernel
theorem dX8_turn_94 : decode cX8_turn 94 = .ok (.getfield 169, 3) := by decide +kernel
theorem dX8_turn_97 : decode cX8_turn 97 = .ok (.if_icmp .gt 11, 3) := by decide +kernel
theorem dX8_turn_100 : decode cX8_turn 100 = .ok (.iload 5, 2) := by decide +kernel
theorem dX8_turn_102 : decode cX8_turn 102 = .ok (.sipush 3840, 3) := by decide +kernel
theorem dX8_turn_105 : decode cX8_turn 105 = .ok (.if_icmp .lt 4, 3) := by decide +kernel
theorem dX8_turn_108 : decode cX8_turn 108 = .ok (.return_, 1) := by decide +kernel
theorem dX8_turn_109 : decode cX8_turn 109 = .ok (.lconst 1, 1) := by decide +kernel
theorem dX8_turn_110 : decode cX8_turn 110 = .ok (.bipush 8, 2) := by decide +kernel
theorem dX8_turn_112 : decode cX8_turn 112 = .ok (.iload_n 2, 1) := by decide +kernel
theorem dX8_turn_113 : decode cX8_turn 113 = .ok (.imul, 1) := by decide +kernel
theorem dX8_turn_114 : decode cX8_turn 114 = .ok (.aload_n 0, 1) := by decide +kernel
theorem dX8_turn_115 : decode cX8_turn 115 = .ok (.getfield 18, 3) := by decide +kernel
theorem dX8_turn_118 : decode cX8_turn 118 = .ok (.iload_n 3, 1) := by decide +kernel
theorem dX8_turn_119 : decode cX8_turn 119 = .ok (.iaload, 1) := by decide +kernel
theorem dX8_turn_120 : decode cX8_turn 120 = .ok (.iadd, 1) := by decide +kernel
theorem dX8_turn_121 : decode cX8_turn 121 = .ok (.lshl, 1) := by decide +kernel
theorem dX8_turn_122 : decode cX8_turn 122 = .ok (.lstore 7, 2) := by decide +kernel
theorem dX8_turn_124 : decode cX8_turn 124 = .ok (.iconst 0, 1) := by decide +kernel
theorem dX8_turn_125 : decode cX8_turn 125 = .ok (.istore 9, 2) := by decide +kernel
theorem dX8_turn_127 : decode cX8_turn 127 = .ok (.iload 9, 2) := by decide +kernel
theorem dX8_turn_129 : decode cX8_turn 129 = .ok (.iload 5, 2) := by decide +kernel
theorem dX8_turn_131 : decode cX8_turn 131 = .ok (.if_icmp .ge 113, 3) := by decide +kernel
theorem dX8_turn_134 : decode cX8_turn 134 = .ok (.aload_n 0, 1) := by decide +kernel
theorem dX8_turn_135 : decode cX8_turn 135 = .ok (.getfield 64, 3) := by decide +kernel
theorem dX8_turn_138 : decode cX8_turn 138 = .ok (.getfield 113, 3) := by decide +kernel
theorem dX8_turn_141 : decode cX8_turn 141 = .ok (.iload 6, 2) := by decide +kernel
theorem dX8_turn_143 : decode cX8_turn 143 = .ok (.iaload, 1) := by decide +kernel
theorem dX8_turn_144 : decode cX8_turn 144 = .ok (.istore 10, 2) := by decide +kernel
theorem dX8_turn_146 : decode cX8_turn 146 = .ok (.iload 10, 2) := by decide +kernel
theorem dX8_turn_148 : decode cX8_turn 148 = .ok (.iconst 1, 1) := by decide +kernel
theorem dX8_turn_149 : decode cX8_turn 149 = .ok (.iadd, 1) := by decide +kernel
theorem dX8_turn_150 : decode cX8_turn 150 = .ok (.aload_n 0, 1) := by decide +kernel
theorem dX8_turn_151 : decode cX8_turn 151 = .ok (.getfield 64, 3) := by decide +kernel
theorem dX8_turn_154 : decode cX8_turn 154 = .ok (.getfield 113, 3) := by decide +kernel
theorem dX8_turn_157 : decode cX8_turn 157 = .ok (.iload 6, 2) := by decide +kernel
theorem dX8_turn_159 : decode cX8_turn 159 = .ok (.iconst 1, 1) := by decide +kernel
theorem dX8_turn_160 : decode cX8_turn 160 = .ok (.iadd, 1) := by decide +kernel
theorem dX8_turn_161 : decode cX8_turn 161 = .ok (.iaload, 1) := by decide +kernel
theorem dX8_turn_162 : decode cX8_turn 162 = .ok (.if_icmp .ge 27, 3) := by decide +kernel
theorem dX8_turn_165 : decode cX8_turn 165 = .ok (.aload_n 0, 1) := by decide +kernel
theorem dX8_turn_166 : decode cX8_turn 166 = .ok (.lload 7, 2) := by decide +kernel
theorem dX8_turn_168 : decode cX8_turn 168 = .ok (.iload 10, 2) := by decide +kernel
theorem dX8_turn_170 : decode cX8_turn 170 = .ok (.invokevirtual 179, 3) := by decide +kernel
theorem dX8_turn_173 : decode cX8_turn 173 = .ok (.iload 5, 2) := by decide +kernel
theorem dX8_turn_175 : decode cX8_turn 175 = .ok (.iload 9, 2) := by decide +kernel
theorem dX8_turn_177 : decode cX8_turn 177 = .ok (.isub, 1) := by decide +kernel
theorem dX8_turn_178 : decode cX8_turn 178 = .ok (.iconst 1, 1) := by decide +kernel
theorem dX8_turn_179 : decode cX8_turn 179 = .ok (.isub, 1) := by decide +kernel
theorem dX8_turn_180 : decode cX8_turn 180 = .ok (.if_icmp .eq 9, 3) := by decide +kernel
theorem dX8_turn_183 : decode cX8_turn 183 = .ok (.iinc 10 1, 3) := by decide +kernel
theorem dX8_turn_186 : decode cX8_turn 186 = .ok (.goto (-40), 3) := by decide +kernel
theorem dX8_turn_189 : decode cX8_turn 189 = .ok (.aload_n 0, 1) := by decide +kernel
theorem dX8_turn_190 : decode cX8_turn 190 = .ok (.lload 7, 2) := by decide +kernel
theorem dX8_turn_192 : decode cX8_turn 192 = .ok (.iload 10, 2) := by decide +kernel
theorem dX8_turn_194 : decode cX8_turn 194 = .ok (.iload 5, 2) := by decide +kernel
theorem dX8_turn_196 : decode cX8_turn 196 = .ok (.iload 9, 2) := by decide +kernel
theorem dX8_turn_198 : decode cX8_turn 198 = .ok (.isub, 1) := by decide +kernel
theorem dX8_turn_199 : decode cX8_turn 199 = .ok (.iconst 1, 1) := by decide +kernel
theorem dX8_turn_200 : decode cX8_turn 200 = .ok (.isub, 1) := by decide +kernel
theorem dX8_turn_201 : decode cX8_turn 201 = .ok (.invokevirtual 183, 3) := by decide +kernel
theorem dX8_turn_204 : decode cX8_turn 204 = .ok (.lstore 7, 2) := by decide +kernel
theorem dX8_turn_206 : decode cX8_turn 206 = .ok (.aload_n 0, 1) := by decide +kernel
theorem dX8_turn_207 : decode cX8_turn 207 = .ok (.getfield 61, 3) := by decide +kernel
theorem dX8_turn_210 : decode cX8_turn 210 = .ok (.iload 9, 2) := by decide +kernel
theorem dX8_turn_212 : decode cX8_turn 212 = .ok (.iload 10, 2) := by decide +kernel
theorem dX8_turn_214 : decode cX8_turn 214 = .ok (.aload_n 0, 1) := by decide +kernel
theorem dX8_turn_215 : decode cX8_turn 215 = .ok (.getfield 64, 3) := by decide +kernel
theorem dX8_turn_218 : decode cX8_turn 218 = .ok (.getfield 113, 3) := by decide +kernel
theorem dX8_turn_221 : decode cX8_turn 221 = .ok (.iload 6, 2) := by decide +kernel
theorem dX8_turn_223 : decode cX8_turn 223 = .ok (.iaload, 1) := by decide +kernel
theorem dX8_turn_224 : decode cX8_turn 224 = .ok (.isub, 1) := by decide +kernel
theorem dX8_turn_225 : decode cX8_turn 225 = .ok (.iastore, 1) := by decide +kernel
theorem dX8_turn_226 : decode cX8_turn 226 = .ok (.aload_n 0, 1) := by decide +kernel
theorem dX8_turn_227 : decode cX8_turn 227 = .ok (.getfield 64, 3) := by decide +kernel
theorem dX8_turn_230 : decode cX8_turn 230 = .ok (.getfield 106, 3) := by decide +kernel
theorem dX8_turn_233 : decode cX8_turn 233 = .ok (.iload 10, 2) := by decide +kernel
theorem dX8_turn_235 : decode cX8_turn 235 = .ok (.iaload, 1) := by decide +kernel
theorem dX8_turn_236 : decode cX8_turn 236 = .ok (.istore 6, 2) := by decide +kernel
theorem dX8_turn_238 : decode cX8_turn 238 = .ok (.iinc 9 1, 3) := by decide +kernel
theorem dX8_turn_241 : decode cX8_turn 241 = .ok (.goto (-114), 3) := by decide +kernel
theorem dX8_turn_244 : decode cX8_turn 244 = .ok (.iconst 0, 1) := by decide +kernel
theorem dX8_turn_245 : decode cX8_turn 245 = .ok (.istore 9, 2) := by decide +kernel
theorem dX8_turn_247 : decode cX8_turn 247 = .ok (.iload 5, 2) := by decide +kernel
theorem dX8_turn_249 : decode cX8_turn 249 = .ok (.aload_n 0, 1) := by decide +kernel
theorem dX8_turn_250 : decode cX8_turn 250 = .ok (.getfield 169, 3) := by decide +kernel
theorem dX8_turn_253 : decode cX8_turn 253 = .ok (.if_icmp .ne 33, 3) := by decide +kernel
theorem dX8_turn_256 : decode cX8_turn 256 = .ok (.iload 9, 2) := by decide +kernel
theorem dX8_turn_258 : decode cX8_turn 258 = .ok (.iload 5, 2) := by decide +kernel
theorem dX8_turn_260 : decode cX8_turn 260 = .ok (.if_icmp .ge 26, 3) := by decide +kernel
theorem dX8_turn_263 : decode cX8_turn 263 = .ok (.aload_n 0, 1) := by decide +kernel
theorem dX8_turn_264 : decode cX8_turn 264 = .ok (.getfield 61, 3) := by decide +kernel
theorem dX8_turn_267 : decode cX8_turn 267 = .ok (.iload 9, 2) := by decide +kernel
theorem dX8_turn_269 : decode cX8_turn 269 = .ok (.iaload, 1) := by decide +kernel
theorem dX8_turn_270 : decode cX8_turn 270 = .ok (.aload_n 0, 1) := by decide +kernel
theorem dX8_turn_271 : decode cX8_turn 271 = .ok (.getfield 58, 3) := by decide +kernel
theorem dX8_turn_274 : decode cX8_turn 274 = .ok (.iload 9, 2) := by decide +kernel
theorem dX8_turn_276 : decode cX8_turn 276 = .ok (.iaload, 1) := by decide +kernel
theorem dX8_turn_277 : decode cX8_turn 277 = .ok (.if_icmp .ne 9, 3) := by decide +kernel
theorem dX8_turn_280 : decode cX8_turn 280 = .ok (.iinc 9 1, 3) := by decide +kernel
theorem dX8_turn_283 : decode cX8_turn 283 = .ok (.goto (-36), 3) := by decide +kernel
theorem dX8_turn_286 : decode cX8_turn 286 = .ok (.iload 5, 2) := by decide +kernel
theorem dX8_turn_288 : decode cX8_turn 288 = .ok (.aload_n 0, 1) := by decide +kernel
theorem dX8_turn_289 : decode cX8_turn 289 = .ok (.getfield 169, 3) := by decide +kernel
theorem dX8_turn_292 : decode cX8_turn 292 = .ok (.if_icmp .ne 28, 3) := by decide +kernel
theorem dX8_turn_295 : decode cX8_turn 295 = .ok (.iload 9, 2) := by decide +kernel
theorem dX8_turn_297 : decode cX8_turn 297 = .ok (.iload 5, 2) := by decide +kernel
theorem dX8_turn_299 : decode cX8_turn 299 = .ok (.if_icmp .eq 20, 3) := by decide +kernel
theorem dX8_turn_302 : decode cX8_turn 302 = .ok (.aload_n 0, 1) := by decide +kernel
theorem dX8_turn_303 : decode cX8_turn 303 = .ok (.getfield 61, 3) := by decide +kernel
theorem dX8_turn_306 : decode cX8_turn 306 = .ok (.iload 9, 2) := by decide +kernel
theorem dX8_turn_308 : decode cX8_turn 308 = .ok (.iaload, 1) := by decide +kernel
theorem dX8_turn_309 : decode cX8_turn 309 = .ok (.aload_n 0, 1) := by decide +kernel
theorem dX8_turn_310 : decode cX8_turn 310 = .ok (.getfield 58, 3) := by decide +kernel
theorem dX8_turn_313 : decode cX8_turn 313 = .ok (.iload 9, 2) := by decide +kernel
theorem dX8_turn_315 : decode cX8_turn 315 = .ok (.iaload, 1) := by decide +kernel
theorem dX8_turn_316 : decode cX8_turn 316 = .ok (.if_icmp .le 4, 3) := by decide +kernel
theorem dX8_turn_319 : decode cX8_turn 319 = .ok (.return_, 1) := by decide +kernel
theorem dX8_turn_320 : decode cX8_turn 320 = .ok (.aload_n 0, 1) := by decide +kernel
theorem dX8_turn_321 : decode cX8_turn 321 = .ok (.iload 5, 2) := by decide +kernel
theorem dX8_turn_323 : decode cX8_turn 323 = .ok (.putfield 169, 3) := by decide +kernel
theorem dX8_turn_326 : decode cX8_turn 326 = .ok (.iconst 0, 1) := by decide +kernel
theorem dX8_turn_327 : decode cX8_turn 327 = .ok (.istore 10, 2) := by decide +kernel
theorem dX8_turn_329 : decode cX8_turn 329 = .ok (.iload 10, 2) := by decide +kernel
theorem dX8_turn_331 : decode cX8_turn 331 = .ok (.iload 5, 2) := by decide +kernel
theorem dX8_turn_333 : decode cX8_turn 333 = .ok (.if_icmp .ge 23, 3) := by decide +kernel
theorem dX8_turn_336 : decode cX8_turn 336 = .ok (.aload_n 0, 1) := by decide +kernel
theorem dX8_turn_337 : decode cX8_turn 337 = .ok (.getfield 58, 3) := by decide +kernel
theorem dX8_turn_340 : decode cX8_turn 340 = .ok (.iload 10, 2) := by decide +kernel
theorem dX8_turn_342 : decode cX8_turn 342 = .ok (.aload_n 0, 1) := by decide +kernel
theorem dX8_turn_343 : decode cX8_turn 343 = .ok (.getfield 61, 3) := by decide +kernel
theorem dX8_turn_346 : decode cX8_turn 346 = .ok (.iload 10, 2) := by decide +kernel
theorem dX8_turn_348 : decode cX8_turn 348 = .ok (.iaload, 1) := by decide +kernel
theorem dX8_turn_349 : decode cX8_turn 349 = .ok (.iastore, 1) := by decide +kernel
theorem dX8_turn_350 : decode cX8_turn 350 = .ok (.iinc 10 1, 3) := by decide +kernel
theorem dX8_turn_353 : decode cX8_turn 353 = .ok (.goto (-24), 3) := by decide +kernel
theorem dX8_turn_356 : decode cX8_turn 356 = .ok (.return_, 1) := by decide +kernel
abbrev MX8_turn : zT := (yX8_turn, cX8_turn, 11, (Option.none : Option Jvm.ClassFile.FieldType), [])
theorem plX8_turn : zplain MX8_turn 2 ∧ (zcodeW MX8_turn ∈ lw_all ∧ Cond.initialized MX8_turn.1.cls ∈ lw_all) := ⟨⟨by decide +kernel, by decide +kernel⟩, q1791, q126⟩
noncomputable def f_X8_turn_108 (σ : zM) : Option zO :=
  some (0, ((3, 0) : zV), σ)
theorem w_X8_turn_108 {g : zG} {lv : Nat} {out : zO} (σ : zM) {r : zO} (h : f_X8_turn_108  σ = some r) (hk : (fun o : zO => o = out) r) : Gj g MX8_turn (lv + 2) 108 [] [] σ out := by
  revert h
  unfold f_X8_turn_108
  intro h
  cases h
  have hk : (0, ((3, 0) : zV), σ) = out := hk
  subst hk
  exact gj_vret (pc := 108) dX8_turn_108 rfl
noncomputable def f_X8_turn_356 (σ : zM) : Option zO :=
  some (0, ((3, 0) : zV), σ)
theorem w_X8_turn_356 {g : zG} {lv : Nat} {out : zO} (σ : zM) {r : zO} (h : f_X8_turn_356  σ = some r) (hk : (fun o : zO => o = out) r) : Gj g MX8_turn (lv + 2) 356 [] [] σ out := by
  revert h
  unfold f_X8_turn_356
  intro h
  cases h
  have hk : (0, ((3, 0) : zV), σ) = out := hk
  subst hk
  exact gj_vret (pc := 356) dX8_turn_356 rfl
noncomputable def f_X8_turn_329_b (x0 x5 x10 : Int) (σ : zM) : Option ((Int × zM) ⊕ zO) :=
  if x5 ≤ x10 then
    (f_X8_turn_356 σ).map (fun r => (.inr r))
  else
    (zgf σ 819 x0).bind fun v1 =>
    (zgf σ 820 x0).bind fun v2 =>
    (zga σ 101 v2 x10).bind fun v3 =>
    (zpa σ 101 v1 x10 v3).bind fun σ4 =>
    zlet (zadd x10 1) fun y5 =>
    some (.inl (y5, σ4))
noncomputable def f_X8_turn_329 (x0 x5 x10 : Int) (σ : zM) : Option zO :=
  zloop (fun s : Int × zM => f_X8_turn_329_b x0 x5 s.1 s.2) (x10, σ)
theorem w_X8_turn_329_b {g : zG} {lv : Nat} {out : zO} (x0 x5 x10 : Int) (σ : zM) {r : ((Int × zM) ⊕ zO)} (h : f_X8_turn_329_b x0 x5 x10 σ = some r) (hk : (zKL (fun s : Int × zM => Gj g MX8_turn (lv + 2) 329 [(0, zr x0), (5, zi x5), (10, zi s.1)] [] s.2 out) (fun o : zO => o = out)) r) : Gj g MX8_turn (lv + 2) 329 [(0, zr x0), (5, zi x5), (10, zi x10)] [] σ out := by
  revert h
  unfold f_X8_turn_329_b
  refine zst_ (gj_iload 2 (pc := 329) dX8_turn_329 rfl) ?_
  refine zst_ (gj_iload 1 (pc := 331) dX8_turn_331 rfl) ?_
  refine gb_if (gj_icmp_ge 356 (pc := 333) dX8_turn_333 (by decide)) ?_ ?_
  · refine zst_ (gj_sub [] rfl) ?_
    intro h
    obtain ⟨r0, h0, rfl⟩ := zmE h
    exact w_X8_turn_356 σ h0 hk
  · refine zst_ (gj_aload_n 0 (pc := 336) dX8_turn_336 rfl) ?_
    refine gb_get (pc := 337) fl819 dX8_turn_337 q785 (Or.inl rfl) (fun v1 => ?_)
    refine zst_ (gj_iload 2 (pc := 340) dX8_turn_340 rfl) ?_
    refine zst_ (gj_aload_n 0 (pc := 342) dX8_turn_342 rfl) ?_
    refine gb_get (pc := 343) fl820 dX8_turn_343 q787 (Or.inl rfl) (fun v2 => ?_)
    refine zst_ (gj_iload 2 (pc := 346) dX8_turn_346 rfl) ?_
    refine gb_iald (pc := 348) dX8_turn_348 (fun v3 => ?_)
    refine gb_iast (pc := 349) dX8_turn_349 (fun σ4 => ?_)
    refine gb_iinc (pc := 350) 2 (fun y5 => [(10, zi y5), (0, zr x0), (5, zi x5)]) dX8_turn_350 rfl (by decide) (fun _ => rfl) (fun y5 => ?_)
    refine zst_ (gj_goto 329 (pc := 353) dX8_turn_353 (by decide)) ?_
    refine zst_ (gj_sub [1, 2, 0] rfl) ?_
    intro h
    cases h
    exact hk
theorem w_X8_turn_329 {g : zG} {lv : Nat} {out : zO} (x0 x5 x10 : Int) (σ : zM) {r : zO} (h : f_X8_turn_329 x0 x5 x10 σ = some r) (hk : (fun o : zO => o = out) r) : Gj g MX8_turn (lv + 2) 329 [(0, zr x0), (5, zi x5), (10, zi x10)] [] σ out :=
  gj_loop (P := (fun s : Int × zM => Gj g MX8_turn (lv + 2) 329 [(0, zr x0), (5, zi x5), (10, zi s.1)] [] s.2 out)) (fun s x hb hx => w_X8_turn_329_b x0 x5 s.1 s.2 hb hx) h hk
noncomputable def f_X8_turn_320 (x0 x5 : Int) (σ : zM) : Option zO :=
  (zpf σ 822 x0 x5).bind fun σ1 =>
  f_X8_turn_329 x0 x5 0 σ1
theorem w_X8_turn_320 {g : zG} {lv : Nat} {out : zO} (x0 x5 : Int) (σ : zM) {r : zO} (h : f_X8_turn_320 x0 x5 σ = some r) (hk : (fun o : zO => o = out) r) : Gj g MX8_turn (lv + 2) 320 [(0, zr x0), (5, zi x5)] [] σ out := by
  revert h
  unfold f_X8_turn_320
  refine zst_ (gj_aload_n 0 (pc := 320) dX8_turn_320 rfl) ?_
  refine zst_ (gj_iload 1 (pc := 321) dX8_turn_321 rfl) ?_
  refine gb_put (pc := 323) fl822 fr822 dX8_turn_323 q791 (Or.inl rfl) (fun σ1 => ?_)
  refine zst_ (gj_iconst (pc := 326) dX8_turn_326 (by decide)) ?_
  refine zst_ (gj_istore (pc := 327) (ls' := [(10, zi 0), (0, zr x0), (5, zi x5)]) dX8_turn_327 (by decide) rfl) ?_
  refine zst_ (gj_sub [1, 2, 0] rfl) ?_
  exact fun h => w_X8_turn_329 x0 x5 0 σ1 h hk
noncomputable def f_X8_turn_319 (σ : zM) : Option zO :=
  some (0, ((3, 0) : zV), σ)
theorem w_X8_turn_319 {g : zG} {lv : Nat} {out : zO} (σ : zM) {r : zO} (h : f_X8_turn_319  σ = some r) (hk : (fun o : zO => o = out) r) : Gj g MX8_turn (lv + 2) 319 [] [] σ out := by
  revert h
  unfold f_X8_turn_319
  intro h
  cases h
  have hk : (0, ((3, 0) : zV), σ) = out := hk
  subst hk
  exact gj_vret (pc := 319) dX8_turn_319 rfl
noncomputable def f_X8_turn_286 (x0 x5 x9 : Int) (σ : zM) : Option zO :=
  (zgf σ 822 x0).bind fun v1 =>
  if x5 ≠ v1 then
    f_X8_turn_320 x0 x5 σ
  else
    if x9 = x5 then
      f_X8_turn_319 σ
    else
      (zgf σ 820 x0).bind fun v2 =>
      (zga σ 101 v2 x9).bind fun v3 =>
      (zgf σ 819 x0).bind fun v4 =>
      (zga σ 101 v4 x9).bind fun v5 =>
      if v3 ≤ v5 then
        f_X8_turn_320 x0 x5 σ
      else
        f_X8_turn_319 σ
theorem w_X8_turn_286 {g : zG} {lv : Nat} {out : zO} (x0 x5 x9 : Int) (σ : zM) {r : zO} (h : f_X8_turn_286 x0 x5 x9 σ = some r) (hk : (fun o : zO => o = out) r) : Gj g MX8_turn (lv + 2) 286 [(0, zr x0), (5, zi x5), (9, zi x9)] [] σ out := by
  revert h
  unfold f_X8_turn_286
  refine zst_ (gj_iload 1 (pc := 286) dX8_turn_286 rfl) ?_
  refine zst_ (gj_aload_n 0 (pc := 288) dX8_turn_288 rfl) ?_
  refine gb_get (pc := 289) fl822 dX8_turn_289 q791 (Or.inl rfl) (fun v1 => ?_)
  refine gb_if (gj_icmp_ne 320 (pc := 292) dX8_turn_292 (by decide)) ?_ ?_
  · refine zst_ (gj_sub [0, 1] rfl) ?_
    exact fun h => w_X8_turn_320 x0 x5 σ h hk
  · refine zst_ (gj_iload 2 (pc := 295) dX8_turn_295 rfl) ?_
    refine zst_ (gj_iload 1 (pc := 297) dX8_turn_297 rfl) ?_
    refine gb_if (gj_icmp_eq 319 (pc := 299) dX8_turn_299 (by decide)) ?_ ?_
    · refine zst_ (gj_sub [] rfl) ?_
      exact fun h => w_X8_turn_319 σ h hk
    · refine zst_ (gj_aload_n 0 (pc := 302) dX8_turn_302 rfl) ?_
      refine gb_get (pc := 303) fl820 dX8_turn_303 q787 (Or.inl rfl) (fun v2 => ?_)
      refine zst_ (gj_iload 2 (pc := 306) dX8_turn_306 rfl) ?_
      refine gb_iald (pc := 308) dX8_turn_308 (fun v3 => ?_)
      refine zst_ (gj_aload_n 0 (pc := 309) dX8_turn_309 rfl) ?_
      refine gb_get (pc := 310) fl819 dX8_turn_310 q785 (Or.inl rfl) (fun v4 => ?_)
      refine zst_ (gj_iload 2 (pc := 313) dX8_turn_313 rfl) ?_
      refine gb_iald (pc := 315) dX8_turn_315 (fun v5 => ?_)
      refine gb_if (gj_icmp_le 320 (pc := 316) dX8_turn_316 (by decide)) ?_ ?_
      · refine zst_ (gj_sub [0, 1] rfl) ?_
        exact fun h => w_X8_turn_320 x0 x5 σ h hk
      · refine zst_ (gj_sub [] rfl) ?_
        exact fun h => w_X8_turn_319 σ h hk
noncomputable def f_X8_turn_247_b (x0 x5 x9 : Int) (σ : zM) : Option ((Int) ⊕ zO) :=
  (zgf σ 822 x0).bind fun v1 =>
  if x5 ≠ v1 then
    (f_X8_turn_286 x0 x5 x9 σ).map (fun r => (.inr r))
  else
    if x5 ≤ x9 then
      (f_X8_turn_286 x0 x5 x9 σ).map (fun r => (.inr r))
    else
      (zgf σ 820 x0).bind fun v2 =>
      (zga σ 101 v2 x9).bind fun v3 =>
      (zgf σ 819 x0).bind fun v4 =>
      (zga σ 101 v4 x9).bind fun v5 =>
      if v3 ≠ v5 then
        (f_X8_turn_286 x0 x5 x9 σ).map (fun r => (.inr r))
      else
        zlet (zadd x9 1) fun y6 =>
        some (.inl y6)
noncomputable def f_X8_turn_247 (x0 x5 x9 : Int) (σ : zM) : Option zO :=
  zloop (fun s : Int => f_X8_turn_247_b x0 x5 s σ) x9
theorem w_X8_turn_247_b {g : zG} {lv : Nat} {out : zO} (x0 x5 x9 : Int) (σ : zM) {r : ((Int) ⊕ zO)} (h : f_X8_turn_247_b x0 x5 x9 σ = some r) (hk : (zKL (fun s : Int => Gj g MX8_turn (lv + 2) 247 [(0, zr x0), (5, zi x5), (9, zi s)] [] σ out) (fun o : zO => o = out)) r) : Gj g MX8_turn (lv + 2) 247 [(0, zr x0), (5, zi x5), (9, zi x9)] [] σ out := by
  revert h
  unfold f_X8_turn_247_b
  refine zst_ (gj_iload 1 (pc := 247) dX8_turn_247 rfl) ?_
  refine zst_ (gj_aload_n 0 (pc := 249) dX8_turn_249 rfl) ?_
  refine gb_get (pc := 250) fl822 dX8_turn_250 q791 (Or.inl rfl) (fun v1 => ?_)
  refine gb_if (gj_icmp_ne 286 (pc := 253) dX8_turn_253 (by decide)) ?_ ?_
  · intro h
    obtain ⟨r0, h0, rfl⟩ := zmE h
    exact w_X8_turn_286 x0 x5 x9 σ h0 hk
  · refine zst_ (gj_iload 2 (pc := 256) dX8_turn_256 rfl) ?_
    refine zst_ (gj_iload 1 (pc := 258) dX8_turn_258 rfl) ?_
    refine gb_if (gj_icmp_ge 286 (pc := 260) dX8_turn_260 (by decide)) ?_ ?_
    · intro h
      obtain ⟨r0, h0, rfl⟩ := zmE h
      exact w_X8_turn_286 x0 x5 x9 σ h0 hk
    · refine zst_ (gj_aload_n 0 (pc := 263) dX8_turn_263 rfl) ?_
      refine gb_get (pc := 264) fl820 dX8_turn_264 q787 (Or.inl rfl) (fun v2 => ?_)
      refine zst_ (gj_iload 2 (pc := 267) dX8_turn_267 rfl) ?_
      refine gb_iald (pc := 269) dX8_turn_269 (fun v3 => ?_)
      refine zst_ (gj_aload_n 0 (pc := 270) dX8_turn_270 rfl) ?_
      refine gb_get (pc := 271) fl819 dX8_turn_271 q785 (Or.inl rfl) (fun v4 => ?_)
      refine zst_ (gj_iload 2 (pc := 274) dX8_turn_274 rfl) ?_
      refine gb_iald (pc := 276) dX8_turn_276 (fun v5 => ?_)
      refine gb_if (gj_icmp_ne 286 (pc := 277) dX8_turn_277 (by decide)) ?_ ?_
      · intro h
        obtain ⟨r0, h0, rfl⟩ := zmE h
        exact w_X8_turn_286 x0 x5 x9 σ h0 hk
      · refine gb_iinc (pc := 280) 2 (fun y6 => [(9, zi y6), (0, zr x0), (5, zi x5)]) dX8_turn_280 rfl (by decide) (fun _ => rfl) (fun y6 => ?_)
        refine zst_ (gj_goto 247 (pc := 283) dX8_turn_283 (by decide)) ?_
        refine zst_ (gj_sub [1, 2, 0] rfl) ?_
        intro h
        cases h
        exact hk
theorem w_X8_turn_247 {g : zG} {lv : Nat} {out : zO} (x0 x5 x9 : Int) (σ : zM) {r : zO} (h : f_X8_turn_247 x0 x5 x9 σ = some r) (hk : (fun o : zO => o = out) r) : Gj g MX8_turn (lv + 2) 247 [(0, zr x0), (5, zi x5), (9, zi x9)] [] σ out :=
  gj_loop (P := (fun s : Int => Gj g MX8_turn (lv + 2) 247 [(0, zr x0), (5, zi x5), (9, zi s)] [] σ out)) (fun s x hb hx => w_X8_turn_247_b x0 x5 s σ hb hx) h hk
noncomputable def f_X8_turn_244 (x0 x5 : Int) (σ : zM) : Option zO :=
  f_X8_turn_247 x0 x5 0 σ
theorem w_X8_turn_244 {g : zG} {lv : Nat} {out : zO} (x0 x5 : Int) (σ : zM) {r : zO} (h : f_X8_turn_244 x0 x5 σ = some r) (hk : (fun o : zO => o = out) r) : Gj g MX8_turn (lv + 2) 244 [(0, zr x0), (5, zi x5)] [] σ out := by
  revert h
  unfold f_X8_turn_244
  refine zst_ (gj_iconst (pc := 244) dX8_turn_244 (by decide)) ?_
  refine zst_ (gj_istore (pc := 245) (ls' := [(9, zi 0), (0, zr x0), (5, zi x5)]) dX8_turn_245 (by decide) rfl) ?_
  refine zst_ (gj_sub [1, 2, 0] rfl) ?_
  exact fun h => w_X8_turn_247 x0 x5 0 σ h hk
noncomputable def f_X8_turn_189 (x0 x5 x6 x7 x9 x10 : Int) (σ : zM) : Option ((Int × Int × Int × zM) ⊕ zO) :=
  zgd (zis σ 9 x0) <|
  zcj (f_X8_led x0 x7 x10 (zsub (zsub x5 x9) 1) σ) fun v1 σ2 =>
  (zgf σ2 820 x0).bind fun v3 =>
  (zgf σ2 800 x0).bind fun v4 =>
  (zgf σ2 215 v4).bind fun v5 =>
  (zga σ2 101 v5 x6).bind fun v6 =>
  (zpa σ2 101 v3 x9 (zsub x10 v6)).bind fun σ7 =>
  (zgf σ7 800 x0).bind fun v8 =>
  (zgf σ7 217 v8).bind fun v9 =>
  (zga σ7 101 v9 x10).bind fun v10 =>
  zlet (zadd x9 1) fun y11 =>
  some (.inl (v10, v1, y11, σ7))
theorem w_X8_turn_189 {g : zG} {lv : Nat} {out : zO} (x0 x5 x6 x7 x9 x10 : Int) (σ : zM) {r : ((Int × Int × Int × zM) ⊕ zO)} (h : f_X8_turn_189 x0 x5 x6 x7 x9 x10 σ = some r) (hk : (zKL (fun s : Int × Int × Int × zM => Gj g MX8_turn (lv + 2) 127 [(0, zr x0), (5, zi x5), (6, zi s.1), (7, zj s.2.1), (9, zi s.2.2.1)] [] s.2.2.2 out) (fun o : zO => o = out)) r) : Gj g MX8_turn (lv + 2) 189 [(0, zr x0), (5, zi x5), (6, zi x6), (7, zj x7), (9, zi x9), (10, zi x10)] [] σ out := by
  revert h
  unfold f_X8_turn_189
  refine zst_ (gj_aload_n 0 (pc := 189) dX8_turn_189 rfl) ?_
  refine zst_ (gj_lload 3 (pc := 190) dX8_turn_190 rfl) ?_
  refine zst_ (gj_iload 5 (pc := 192) dX8_turn_192 rfl) ?_
  refine zst_ (gj_iload 1 (pc := 194) dX8_turn_194 rfl) ?_
  refine zst_ (gj_iload 4 (pc := 196) dX8_turn_196 rfl) ?_
  refine zst_ (gj_isub (pc := 198) dX8_turn_198) ?_
  refine zst_ (gj_iconst (pc := 199) dX8_turn_199 (by decide)) ?_
  refine zst_ (gj_isub (pc := 200) dX8_turn_200) ?_
  refine gb_gd (fun hb => ?_)
  refine gb_callJ (pc := 201) (as := [zr x0, zj x7, zi x10, zi (zsub (zsub x5 x9) 1)]) (rest := []) (zCl.of (zLk_V (M := MX8_turn) (ci := 8) (r := (RX8, TX8, 23)) plX8_led.1 rfl rfl (zisE hb).1 (zisE hb).2 dX8_turn_201 q1800 q1802 qs42 q1803) plX8_led (Nat.le_of_ble_eq_true rfl) (fun h => c_X8_led h)) (fun v1 σ2 => ?_)
  refine zst_ (gj_lstore (pc := 204) (ls' := [(7, zj v1), (0, zr x0), (5, zi x5), (6, zi x6), (9, zi x9), (10, zi x10)]) dX8_turn_204 (by decide) rfl) ?_
  refine zst_ (gj_aload_n 1 (pc := 206) dX8_turn_206 rfl) ?_
  refine gb_get (pc := 207) fl820 dX8_turn_207 q787 (Or.inl rfl) (fun v3 => ?_)
  refine zst_ (gj_iload 4 (pc := 210) dX8_turn_210 rfl) ?_
  refine zst_ (gj_iload 5 (pc := 212) dX8_turn_212 rfl) ?_
  refine zst_ (gj_aload_n 1 (pc := 214) dX8_turn_214 rfl) ?_
  refine gb_get (pc := 215) fl800 dX8_turn_215 q765 (Or.inl rfl) (fun v4 => ?_)
  refine gb_getNe (pc := 218) fl215 dX8_turn_218 q301 (Or.inl rfl) (fun v5 => ?_)
  refine zst_ (gj_iload 3 (pc := 221) dX8_turn_221 rfl) ?_
  refine gb_iald (pc := 223) dX8_turn_223 (fun v6 => ?_)
  refine zst_ (gj_isub (pc := 224) dX8_turn_224) ?_
  refine gb_iast (pc := 225) dX8_turn_225 (fun σ7 => ?_)
  refine zst_ (gj_aload_n 1 (pc := 226) dX8_turn_226 rfl) ?_
  refine gb_get (pc := 227) fl800 dX8_turn_227 q765 (Or.inl rfl) (fun v8 => ?_)
  refine gb_getNe (pc := 230) fl217 dX8_turn_230 q306 (Or.inl rfl) (fun v9 => ?_)
  refine zst_ (gj_iload 5 (pc := 233) dX8_turn_233 rfl) ?_
  refine gb_iald (pc := 235) dX8_turn_235 (fun v10 => ?_)
  refine zst_ (gj_istore (pc := 236) (ls' := [(6, zi v10), (7, zj v1), (0, zr x0), (5, zi x5), (9, zi x9), (10, zi x10)]) dX8_turn_236 (by decide) rfl) ?_
  refine gb_iinc (pc := 238) 4 (fun y11 => [(9, zi y11), (6, zi v10), (7, zj v1), (0, zr x0), (5, zi x5), (10, zi x10)]) dX8_turn_238 rfl (by decide) (fun _ => rfl) (fun y11 => ?_)
  refine zst_ (gj_goto 127 (pc := 241) dX8_turn_241 (by decide)) ?_
  refine zst_ (gj_sub [3, 4, 1, 2, 0] rfl) ?_
  intro h
  cases h
  exact hk
noncomputable def f_X8_turn_146_b (x0 x5 x6 x7 x9 x10 : Int) (σ : zM) : Option ((Int × zM) ⊕ ((Int × Int × Int × zM) ⊕ zO)) :=
  (zgf σ 800 x0).bind fun v1 =>
  (zgf σ 215 v1).bind fun v2 =>
  (zga σ 101 v2 (zadd x6 1)).bind fun v3 =>
  if v3 ≤ (zadd x10 1) then
    (f_X8_turn_189 x0 x5 x6 x7 x9 x10 σ).map (fun r => (.inr r))
  else
    zgd (zis σ 9 x0) <|
    zci (f_X8_best x0 x7 x10 σ) fun v4 σ5 =>
    if v4 = (zsub (zsub x5 x9) 1) then
      (f_X8_turn_189 x0 x5 x6 x7 x9 x10 σ5).map (fun r => (.inr r))
    else
      zlet (zadd x10 1) fun y6 =>
      some (.inl (y6, σ5))
noncomputable def f_X8_turn_146 (x0 x5 x6 x7 x9 x10 : Int) (σ : zM) : Option ((Int × Int × Int × zM) ⊕ zO) :=
  zloop (fun s : Int × zM => f_X8_turn_146_b x0 x5 x6 x7 x9 s.1 s.2) (x10, σ)
theorem w_X8_turn_146_b {g : zG} {lv : Nat} {out : zO} (x0 x5 x6 x7 x9 x10 : Int) (σ : zM) {r : ((Int × zM) ⊕ ((Int × Int × Int × zM) ⊕ zO))} (h : f_X8_turn_146_b x0 x5 x6 x7 x9 x10 σ = some r) (hk : (zKL (fun s : Int × zM => Gj g MX8_turn (lv + 2) 146 [(0, zr x0), (5, zi x5), (6, zi x6), (7, zj x7), (9, zi x9), (10, zi s.1)] [] s.2 out) (zKL (fun s : Int × Int × Int × zM => Gj g MX8_turn (lv + 2) 127 [(0, zr x0), (5, zi x5), (6, zi s.1), (7, zj s.2.1), (9, zi s.2.2.1)] [] s.2.2.2 out) (fun o : zO => o = out))) r) : Gj g MX8_turn (lv + 2) 146 [(0, zr x0), (5, zi x5), (6, zi x6), (7, zj x7), (9, zi x9), (10, zi x10)] [] σ out := by
  revert h
  unfold f_X8_turn_146_b
  refine zst_ (gj_iload 5 (pc := 146) dX8_turn_146 rfl) ?_
  refine zst_ (gj_iconst (pc := 148) dX8_turn_148 (by decide)) ?_
  refine zst_ (gj_iadd (pc := 149) dX8_turn_149) ?_
  refine zst_ (gj_aload_n 0 (pc := 150) dX8_turn_150 rfl) ?_
  refine gb_get (pc := 151) fl800 dX8_turn_151 q765 (Or.inl rfl) (fun v1 => ?_)
  refine gb_getNe (pc := 154) fl215 dX8_turn_154 q301 (Or.inl rfl) (fun v2 => ?_)
  refine zst_ (gj_iload 2 (pc := 157) dX8_turn_157 rfl) ?_
  refine zst_ (gj_iconst (pc := 159) dX8_turn_159 (by decide)) ?_
  refine zst_ (gj_iadd (pc := 160) dX8_turn_160) ?_
  refine gb_iald (pc := 161) dX8_turn_161 (fun v3 => ?_)
  refine gb_if (gj_icmp_ge 189 (pc := 162) dX8_turn_162 (by decide)) ?_ ?_
  · intro h
    obtain ⟨r0, h0, rfl⟩ := zmE h
    exact w_X8_turn_189 x0 x5 x6 x7 x9 x10 σ h0 hk
  · refine zst_ (gj_aload_n 0 (pc := 165) dX8_turn_165 rfl) ?_
    refine zst_ (gj_lload 3 (pc := 166) dX8_turn_166 rfl) ?_
    refine zst_ (gj_iload 5 (pc := 168) dX8_turn_168 rfl) ?_
    refine gb_gd (fun hb => ?_)
    refine gb_callI (pc := 170) (as := [zr x0, zj x7, zi x10]) (rest := []) (zCl.of (zLk_V (M := MX8_turn) (ci := 8) (r := (RX8, TX8, 23)) plX8_best.1 rfl rfl (zisE hb).1 (zisE hb).2 dX8_turn_170 q1796 q1798 qs41 q1799) plX8_best (Nat.le_of_ble_eq_true rfl) (fun h => c_X8_best h)) (fun v4 σ5 => ?_)
    refine zst_ (gj_iload 1 (pc := 173) dX8_turn_173 rfl) ?_
    refine zst_ (gj_iload 4 (pc := 175) dX8_turn_175 rfl) ?_
    refine zst_ (gj_isub (pc := 177) dX8_turn_177) ?_
    refine zst_ (gj_iconst (pc := 178) dX8_turn_178 (by decide)) ?_
    refine zst_ (gj_isub (pc := 179) dX8_turn_179) ?_
    refine gb_if (gj_icmp_eq 189 (pc := 180) dX8_turn_180 (by decide)) ?_ ?_
    · intro h
      obtain ⟨r0, h0, rfl⟩ := zmE h
      exact w_X8_turn_189 x0 x5 x6 x7 x9 x10 σ5 h0 hk
    · refine gb_iinc (pc := 183) 5 (fun y6 => [(10, zi y6), (0, zr x0), (5, zi x5), (6, zi x6), (7, zj x7), (9, zi x9)]) dX8_turn_183 rfl (by decide) (fun _ => rfl) (fun y6 => ?_)
      refine zst_ (gj_goto 146 (pc := 186) dX8_turn_186 (by decide)) ?_
      refine zst_ (gj_sub [1, 2, 3, 4, 5, 0] rfl) ?_
      intro h
      cases h
      exact hk
theorem w_X8_turn_146 {g : zG} {lv : Nat} {out : zO} (x0 x5 x6 x7 x9 x10 : Int) (σ : zM) {r : ((Int × Int × Int × zM) ⊕ zO)} (h : f_X8_turn_146 x0 x5 x6 x7 x9 x10 σ = some r) (hk : (zKL (fun s : Int × Int × Int × zM => Gj g MX8_turn (lv + 2) 127 [(0, zr x0), (5, zi x5), (6, zi s.1), (7, zj s.2.1), (9, zi s.2.2.1)] [] s.2.2.2 out) (fun o : zO => o = out)) r) : Gj g MX8_turn (lv + 2) 146 [(0, zr x0), (5, zi x5), (6, zi x6), (7, zj x7), (9, zi x9), (10, zi x10)] [] σ out :=
  gj_loop (P := (fun s : Int × zM => Gj g MX8_turn (lv + 2) 146 [(0, zr x0), (5, zi x5), (6, zi x6), (7, zj x7), (9, zi x9), (10, zi s.1)] [] s.2 out)) (fun s x hb hx => w_X8_turn_146_b x0 x5 x6 x7 x9 s.1 s.2 hb hx) h hk
noncomputable def f_X8_turn_127_b (x0 x5 x6 x7 x9 : Int) (σ : zM) : Option ((Int × Int × Int × zM) ⊕ zO) :=
  if x5 ≤ x9 then
    (f_X8_turn_244 x0 x5 σ).map (fun r => (.inr r))
  else
    (zgf σ 800 x0).bind fun v1 =>
    (zgf σ 215 v1).bind fun v2 =>
    (zga σ 101 v2 x6).bind fun v3 =>
    f_X8_turn_146 x0 x5 x6 x7 x9 v3 σ
noncomputable def f_X8_turn_127 (x0 x5 x6 x7 x9 : Int) (σ : zM) : Option zO :=
  zloop (fun s : Int × Int × Int × zM => f_X8_turn_127_b x0 x5 s.1 s.2.1 s.2.2.1 s.2.2.2) (x6, x7, x9, σ)
theorem w_X8_turn_127_b {g : zG} {lv : Nat} {out : zO} (x0 x5 x6 x7 x9 : Int) (σ : zM) {r : ((Int × Int × Int × zM) ⊕ zO)} (h : f_X8_turn_127_b x0 x5 x6 x7 x9 σ = some r) (hk : (zKL (fun s : Int × Int × Int × zM => Gj g MX8_turn (lv + 2) 127 [(0, zr x0), (5, zi x5), (6, zi s.1), (7, zj s.2.1), (9, zi s.2.2.1)] [] s.2.2.2 out) (fun o : zO => o = out)) r) : Gj g MX8_turn (lv + 2) 127 [(0, zr x0), (5, zi x5), (6, zi x6), (7, zj x7), (9, zi x9)] [] σ out := by
  revert h
  unfold f_X8_turn_127_b
  refine zst_ (gj_iload 4 (pc := 127) dX8_turn_127 rfl) ?_
  refine zst_ (gj_iload 1 (pc := 129) dX8_turn_129 rfl) ?_
  refine gb_if (gj_icmp_ge 244 (pc := 131) dX8_turn_131 (by decide)) ?_ ?_
  · refine zst_ (gj_sub [0, 1] rfl) ?_
    intro h
    obtain ⟨r0, h0, rfl⟩ := zmE h
    exact w_X8_turn_244 x0 x5 σ h0 hk
  · refine zst_ (gj_aload_n 0 (pc := 134) dX8_turn_134 rfl) ?_
    refine gb_get (pc := 135) fl800 dX8_turn_135 q765 (Or.inl rfl) (fun v1 => ?_)
    refine gb_getNe (pc := 138) fl215 dX8_turn_138 q301 (Or.inl rfl) (fun v2 => ?_)
    refine zst_ (gj_iload 2 (pc := 141) dX8_turn_141 rfl) ?_
    refine gb_iald (pc := 143) dX8_turn_143 (fun v3 => ?_)
    refine zst_ (gj_istore (pc := 144) (ls' := [(10, zi v3), (0, zr x0), (5, zi x5), (6, zi x6), (7, zj x7), (9, zi x9)]) dX8_turn_144 (by decide) rfl) ?_
    refine zst_ (gj_sub [1, 2, 3, 4, 5, 0] rfl) ?_
    exact fun h => w_X8_turn_146 x0 x5 x6 x7 x9 v3 σ h hk
theorem w_X8_turn_127 {g : zG} {lv : Nat} {out : zO} (x0 x5 x6 x7 x9 : Int) (σ : zM) {r : zO} (h : f_X8_turn_127 x0 x5 x6 x7 x9 σ = some r) (hk : (fun o : zO => o = out) r) : Gj g MX8_turn (lv + 2) 127 [(0, zr x0), (5, zi x5), (6, zi x6), (7, zj x7), (9, zi x9)] [] σ out :=
  gj_loop (P := (fun s : Int × Int × Int × zM => Gj g MX8_turn (lv + 2) 127 [(0, zr x0), (5, zi x5), (6, zi s.1), (7, zj s.2.1), (9, zi s.2.2.1)] [] s.2.2.2 out)) (fun s x hb hx => w_X8_turn_127_b x0 x5 s.1 s.2.1 s.2.2.1 s.2.2.2 hb hx) h hk
noncomputable def f_X8_turn_91 (x0 x2 x3 x5 x6 : Int) (σ : zM) : Option zO :=
  (zgf σ 822 x0).bind fun v1 =>
  if v1 < x5 then
    f_X8_turn_108 σ
  else
    if x5 < 3840 then
      (zgf σ 804 x0).bind fun v2 =>
      (zga σ 101 v2 x3).bind fun v3 =>
      zlet ((jshl 1 (zadd (zmul 8 x2) v3))) fun y4 =>
      f_X8_turn_127 x0 x5 x6 y4 0 σ
    else
      f_X8_turn_108 σ
theorem w_X8_turn_91 {g : zG} {lv : Nat} {out : zO} (x0 x2 x3 x5 x6 : Int) (σ : zM) {r : zO} (h : f_X8_turn_91 x0 x2 x3 x5 x6 σ = some r) (hk : (fun o : zO => o = out) r) : Gj g MX8_turn (lv + 2) 91 [(0, zr x0), (2, zi x2), (3, zi x3), (5, zi x5), (6, zi x6)] [] σ out := by
  revert h
  unfold f_X8_turn_91
  refine zst_ (gj_iload 3 (pc := 91) dX8_turn_91 rfl) ?_
  refine zst_ (gj_aload_n 0 (pc := 93) dX8_turn_93 rfl) ?_
  refine gb_get (pc := 94) fl822 dX8_turn_94 q791 (Or.inl rfl) (fun v1 => ?_)
  refine gb_if (gj_icmp_gt 108 (pc := 97) dX8_turn_97 (by decide)) ?_ ?_
  · refine zst_ (gj_sub [] rfl) ?_
    exact fun h => w_X8_turn_108 σ h hk
  · refine zst_ (gj_iload 3 (pc := 100) dX8_turn_100 rfl) ?_
    refine zst_ (gj_sipush (pc := 102) dX8_turn_102 ⟨rfl, by decide⟩) ?_
    refine gb_if (gj_icmp_lt 109 (pc := 105) dX8_turn_105 (by decide)) ?_ ?_
    · refine zst_ (gj_lconst1 (pc := 109) dX8_turn_109) ?_
      refine zst_ (gj_bipush (pc := 110) dX8_turn_110 ⟨rfl, by decide⟩) ?_
      refine zst_ (gj_iload_n 1 (pc := 112) dX8_turn_112 rfl) ?_
      refine zst_ (gj_imul (pc := 113) dX8_turn_113) ?_
      refine zst_ (gj_aload_n 0 (pc := 114) dX8_turn_114 rfl) ?_
      refine gb_get (pc := 115) fl804 dX8_turn_115 q769 (Or.inl rfl) (fun v2 => ?_)
      refine zst_ (gj_iload_n 2 (pc := 118) dX8_turn_118 rfl) ?_
      refine gb_iald (pc := 119) dX8_turn_119 (fun v3 => ?_)
      refine zst_ (gj_iadd (pc := 120) dX8_turn_120) ?_
      refine zst_ (gj_lshl (pc := 121) dX8_turn_121) ?_
      refine gb_let (fun y4 => ?_)
      refine zst_ (gj_lstore (pc := 122) (ls' := [(7, zj y4), (0, zr x0), (2, zi x2), (3, zi x3), (5, zi x5), (6, zi x6)]) dX8_turn_122 (by decide) rfl) ?_
      refine zst_ (gj_iconst (pc := 124) dX8_turn_124 (by decide)) ?_
      refine zst_ (gj_istore (pc := 125) (ls' := [(9, zi 0), (7, zj y4), (0, zr x0), (2, zi x2), (3, zi x3), (5, zi x5), (6, zi x6)]) dX8_turn_125 (by decide) rfl) ?_
      refine zst_ (gj_sub [2, 5, 6, 1, 0] rfl) ?_
      exact fun h => w_X8_turn_127 x0 x5 x6 y4 0 σ h hk
    · refine zst_ (gj_sub [] rfl) ?_
      exact fun h => w_X8_turn_108 σ h hk
noncomputable def f_X8_turn_41_b (x0 x1 x2 x3 x5 x6 x7 : Int) (σ : zM) : Option ((Int × Int × zM) ⊕ zO) :=
  (zgf σ 800 x0).bind fun v1 =>
  (zgf σ 215 v1).bind fun v2 =>
  (zga σ 101 v2 (zadd x1 1)).bind fun v3 =>
  if v3 ≤ x7 then
    (f_X8_turn_91 x0 x2 x3 x5 x6 σ).map (fun r => (.inr r))
  else
    (zgf σ 804 x0).bind fun v4 =>
    (zga σ 101 v4 x3).bind fun v5 =>
    zgd (zis σ 9 x0) <|
    zci (f_X8_best x0 (jshl 1 (zadd (zmul 8 x2) v5)) x7 σ) fun v6 σ7 =>
    zlet (if (zadd 1 v6) < x5 then (zadd 1 v6) else x5) fun y8 =>
    zlet (zadd x7 1) fun y9 =>
    some (.inl (y8, y9, σ7))
noncomputable def f_X8_turn_41 (x0 x1 x2 x3 x5 x6 x7 : Int) (σ : zM) : Option zO :=
  zloop (fun s : Int × Int × zM => f_X8_turn_41_b x0 x1 x2 x3 s.1 x6 s.2.1 s.2.2) (x5, x7, σ)
theorem w_X8_turn_41_b {g : zG} {lv : Nat} {out : zO} (x0 x1 x2 x3 x5 x6 x7 : Int) (σ : zM) {r : ((Int × Int × zM) ⊕ zO)} (h : f_X8_turn_41_b x0 x1 x2 x3 x5 x6 x7 σ = some r) (hk : (zKL (fun s : Int × Int × zM => Gj g MX8_turn (lv + 2) 41 [(0, zr x0), (1, zi x1), (2, zi x2), (3, zi x3), (5, zi s.1), (6, zi x6), (7, zi s.2.1)] [] s.2.2 out) (fun o : zO => o = out)) r) : Gj g MX8_turn (lv + 2) 41 [(0, zr x0), (1, zi x1), (2, zi x2), (3, zi x3), (5, zi x5), (6, zi x6), (7, zi x7)] [] σ out := by
  revert h
  unfold f_X8_turn_41_b
  refine zst_ (gj_iload 6 (pc := 41) dX8_turn_41 rfl) ?_
  refine zst_ (gj_aload_n 0 (pc := 43) dX8_turn_43 rfl) ?_
  refine gb_get (pc := 44) fl800 dX8_turn_44 q765 (Or.inl rfl) (fun v1 => ?_)
  refine gb_getNe (pc := 47) fl215 dX8_turn_47 q301 (Or.inl rfl) (fun v2 => ?_)
  refine zst_ (gj_iload_n 1 (pc := 50) dX8_turn_50 rfl) ?_
  refine zst_ (gj_iconst (pc := 51) dX8_turn_51 (by decide)) ?_
  refine zst_ (gj_iadd (pc := 52) dX8_turn_52) ?_
  refine gb_iald (pc := 53) dX8_turn_53 (fun v3 => ?_)
  refine gb_if (gj_icmp_ge 91 (pc := 54) dX8_turn_54 (by decide)) ?_ ?_
  · refine zst_ (gj_sub [0, 2, 3, 4, 5] rfl) ?_
    intro h
    obtain ⟨r0, h0, rfl⟩ := zmE h
    exact w_X8_turn_91 x0 x2 x3 x5 x6 σ h0 hk
  · refine zst_ (gj_iload 4 (pc := 57) dX8_turn_57 rfl) ?_
    refine zst_ (gj_iconst (pc := 59) dX8_turn_59 (by decide)) ?_
    refine zst_ (gj_aload_n 0 (pc := 60) dX8_turn_60 rfl) ?_
    refine zst_ (gj_lconst1 (pc := 61) dX8_turn_61) ?_
    refine zst_ (gj_bipush (pc := 62) dX8_turn_62 ⟨rfl, by decide⟩) ?_
    refine zst_ (gj_iload_n 2 (pc := 64) dX8_turn_64 rfl) ?_
    refine zst_ (gj_imul (pc := 65) dX8_turn_65) ?_
    refine zst_ (gj_aload_n 0 (pc := 66) dX8_turn_66 rfl) ?_
    refine gb_get (pc := 67) fl804 dX8_turn_67 q769 (Or.inl rfl) (fun v4 => ?_)
    refine zst_ (gj_iload_n 3 (pc := 70) dX8_turn_70 rfl) ?_
    refine gb_iald (pc := 71) dX8_turn_71 (fun v5 => ?_)
    refine zst_ (gj_iadd (pc := 72) dX8_turn_72) ?_
    refine zst_ (gj_lshl (pc := 73) dX8_turn_73) ?_
    refine zst_ (gj_iload 6 (pc := 74) dX8_turn_74 rfl) ?_
    refine gb_gd (fun hb => ?_)
    refine gb_callI (pc := 76) (as := [zr x0, zj (jshl 1 (zadd (zmul 8 x2) v5)), zi x7]) (rest := [zi 1, zi x5]) (zCl.of (zLk_V (M := MX8_turn) (ci := 8) (r := (RX8, TX8, 23)) plX8_best.1 rfl rfl (zisE hb).1 (zisE hb).2 dX8_turn_76 q1796 q1798 qs41 q1799) plX8_best (Nat.le_of_ble_eq_true rfl) (fun h => c_X8_best h)) (fun v6 σ7 => ?_)
    refine zst_ (gj_iadd (pc := 79) dX8_turn_79) ?_
    refine zst_ (gj_mmin (pc := 80) dX8_turn_80 q1769 q477 q119 q478 (by omega) (Nat.le_of_ble_eq_true rfl)) ?_
    refine gb_let (fun y8 => ?_)
    refine zst_ (gj_istore (pc := 83) (ls' := [(5, zi y8), (0, zr x0), (1, zi x1), (2, zi x2), (3, zi x3), (6, zi x6), (7, zi x7)]) dX8_turn_83 (by decide) rfl) ?_
    refine gb_iinc (pc := 85) 6 (fun y9 => [(7, zi y9), (5, zi y8), (0, zr x0), (1, zi x1), (2, zi x2), (3, zi x3), (6, zi x6)]) dX8_turn_85 rfl (by decide) (fun _ => rfl) (fun y9 => ?_)
    refine zst_ (gj_goto 41 (pc := 88) dX8_turn_88 (by decide)) ?_
    refine zst_ (gj_sub [2, 3, 4, 5, 1, 6, 0] rfl) ?_
    intro h
    cases h
    exact hk
theorem w_X8_turn_41 {g : zG} {lv : Nat} {out : zO} (x0 x1 x2 x3 x5 x6 x7 : Int) (σ : zM) {r : zO} (h : f_X8_turn_41 x0 x1 x2 x3 x5 x6 x7 σ = some r) (hk : (fun o : zO => o = out) r) : Gj g MX8_turn (lv + 2) 41 [(0, zr x0), (1, zi x1), (2, zi x2), (3, zi x3), (5, zi x5), (6, zi x6), (7, zi x7)] [] σ out :=
  gj_loop (P := (fun s : Int × Int × zM => Gj g MX8_turn (lv + 2) 41 [(0, zr x0), (1, zi x1), (2, zi x2), (3, zi x3), (5, zi s.1), (6, zi x6), (7, zi s.2.1)] [] s.2.2 out)) (fun s x hb hx => w_X8_turn_41_b x0 x1 x2 x3 s.1 x6 s.2.1 s.2.2 hb hx) h hk
noncomputable def f_X8_turn (x0 x1 x2 : Int) (σ : zM) : Option zO :=
  zlet ((zadd (zmul 8 x1) x2)) fun y1 =>
  zgd (zis σ 9 x0) <|
  zci (f_X8_kinds x0 σ) fun v2 σ3 =>
  zlet ((zsub v2 1)) fun y4 =>
  zgd (zis σ3 9 x0) <|
  zcv (f_X8_unwind x0 y1 y4 σ3) fun σ5 =>
  (zgf σ5 800 x0).bind fun v6 =>
  (zgf σ5 215 v6).bind fun v7 =>
  (zga σ5 101 v7 x1).bind fun v8 =>
  f_X8_turn_41 x0 x1 x2 y1 3840 x1 v8 σ5
theorem c_X8_turn {g : zG} {lv : Nat} {x0 x1 x2 : Int} {σ : zM} {out : zO} (h : f_X8_turn x0 x1 x2 σ = some out) : Cj g (lv + 2) MX8_turn [zr x0, zi x1, zi x2] σ out := by
  refine cj_go (ls := [(0, zr x0), (1, zi x1), (2, zi x2)]) (by decide) (Nat.le_of_ble_eq_true rfl) rfl (zgen h (fun r hk => ?_))
  unfold f_X8_turn
  refine zst_ (gj_bipush (pc := 0) dX8_turn_0 ⟨rfl, by decide⟩) ?_
  refine zst_ (gj_iload_n 1 (pc := 2) dX8_turn_2 rfl) ?_
  refine zst_ (gj_imul (pc := 3) dX8_turn_3) ?_
  refine zst_ (gj_iload_n 2 (pc := 4) dX8_turn_4 rfl) ?_
  refine zst_ (gj_iadd (pc := 5) dX8_turn_5) ?_
  refine gb_let (fun y1 => ?_)
  refine zst_ (gj_istore_n (pc := 6) (ls' := [(3, zi y1), (0, zr x0), (1, zi x1), (2, zi x2)]) dX8_turn_6 (by decide) rfl) ?_
  refine zst_ (gj_aload_n 1 (pc := 7) dX8_turn_7 rfl) ?_
  refine gb_gd (fun hb => ?_)
  refine gb_callI (pc := 8) (as := [zr x0]) (rest := []) (zCl.of (zLk_V (M := MX8_turn) (ci := 8) (r := (RX8, TX8, 23)) plX8_kinds.1 rfl rfl (zisE hb).1 (zisE hb).2 dX8_turn_8 q1699 q1701 qs30 q1702) plX8_kinds (Nat.le_of_ble_eq_true rfl) (fun h => c_X8_kinds h)) (fun v2 σ3 => ?_)
  refine zst_ (gj_iconst (pc := 11) dX8_turn_11 (by decide)) ?_
  refine zst_ (gj_isub (pc := 12) dX8_turn_12) ?_
  refine gb_let (fun y4 => ?_)
  refine zst_ (gj_istore (pc := 13) (ls' := [(4, zi y4), (3, zi y1), (0, zr x0), (1, zi x1), (2, zi x2)]) dX8_turn_13 (by decide) rfl) ?_
  refine zst_ (gj_aload_n 2 (pc := 15) dX8_turn_15 rfl) ?_
  refine zst_ (gj_iload_n 1 (pc := 16) dX8_turn_16 rfl) ?_
  refine zst_ (gj_iload 0 (pc := 17) dX8_turn_17 rfl) ?_
  refine gb_gd (fun hb => ?_)
  refine gb_callV (pc := 19) (as := [zr x0, zi y1, zi y4]) (rest := []) (zCl.of (zLk_V (M := MX8_turn) (ci := 8) (r := (RX8, TX8, 23)) plX8_unwind.1 rfl rfl (zisE hb).1 (zisE hb).2 dX8_turn_19 q1792 q1794 qs40 q1795) plX8_unwind (Nat.le_of_ble_eq_true rfl) (fun h => c_X8_unwind h)) (fun σ5 => ?_)
  refine zst_ (gj_sipush (pc := 22) dX8_turn_22 ⟨rfl, by decide⟩) ?_
  refine zst_ (gj_istore (pc := 25) (ls' := [(5, zi 3840), (4, zi y4), (3, zi y1), (0, zr x0), (1, zi x1), (2, zi x2)]) dX8_turn_25 (by decide) rfl) ?_
  refine zst_ (gj_iload_n 4 (pc := 27) dX8_turn_27 rfl) ?_
  refine zst_ (gj_istore (pc := 28) (ls' := [(6, zi x1), (5, zi 3840), (4, zi y4), (3, zi y1), (0, zr x0), (1, zi x1), (2, zi x2)]) dX8_turn_28 (by decide) rfl) ?_
  refine zst_ (gj_aload_n 4 (pc := 30) dX8_turn_30 rfl) ?_
  refine gb_get (pc := 31) fl800 dX8_turn_31 q765 (Or.inl rfl) (fun v6 => ?_)
  refine gb_getNe (pc := 34) fl215 dX8_turn_34 q301 (Or.inl rfl) (fun v7 => ?_)
  refine zst_ (gj_iload_n 5 (pc := 37) dX8_turn_37 rfl) ?_
  refine gb_iald (pc := 38) dX8_turn_38 (fun v8 => ?_)
  refine zst_ (gj_istore (pc := 39) (ls' := [(7, zi v8), (6, zi x1), (5, zi 3840), (4, zi y4), (3, zi y1), (0, zr x0), (1, zi x1), (2, zi x2)]) dX8_turn_39 (by decide) rfl) ?_
  refine zst_ (gj_sub [5, 6, 7, 4, 2, 1, 0] rfl) ?_
  exact fun h => w_X8_turn_41 x0 x1 x2 y1 3840 x1 v8 σ5 h hk
theorem q783 : (Jvm.Cond.fieldLink "LassoFinder$Search" (55 : Nat) "LassoFinder$Search" "stem" "[I") ∈ lw_all := lw_g (lw_at lw_m3 203 rfl) rfl
theorem q789 : (Jvm.Cond.fieldLink "LassoFinder$Search" (162 : Nat) "LassoFinder$Search" "stems" "I") ∈ lw_all := lw_g (lw_at lw_m3 209 rfl) rfl
theorem q1683 : (Jvm.Cond.code ({ cls := "LassoFinder$Search", name := "falsifies", desc := "(LLassoFinder$Formula;)Z" } : Jvm.MethodName) prog_18_method_11_code (7 : Nat) (Option.some Jvm.ClassFile.FieldType.boolean)) ∈ lw_all := lw_g (lw_at lw_m7 143 rfl) rfl
theorem q1684 : (Jvm.Cond.methodLink "LassoFinder$Search" (147 : Nat) ({ cls := "LassoFinder$Search", name := "prepare", desc := "()V" } : Jvm.MethodName)) ∈ lw_all := lw_g (lw_at lw_m7 144 rfl) rfl
theorem q1685 : (Jvm.Cond.instanceMethod ({ cls := "LassoFinder$Search", name := "prepare", desc := "()V" } : Jvm.MethodName)) ∈ lw_all := lw_g (lw_at lw_m7 145 rfl) rfl
theorem q1686 : (Jvm.Cond.selects "LassoFinder$Search" ({ cls := "LassoFinder$Search", name := "prepare", desc := "()V" } : Jvm.MethodName) ({ cls := "LassoFinder$Search", name := "prepare", desc := "()V" } : Jvm.MethodName)) ∈ lw_all := lw_g (lw_at lw_m7 146 rfl) rfl
theorem q1752 : (Jvm.Cond.methodLink "LassoFinder$Search" (150 : Nat) ({ cls := "LassoFinder$Search", name := "mark", desc := "()V" } : Jvm.MethodName)) ∈ lw_all := lw_g (lw_at lw_m7 212 rfl) rfl
theorem q1754 : (Jvm.Cond.instanceMethod ({ cls := "LassoFinder$Search", name := "mark", desc := "()V" } : Jvm.MethodName)) ∈ lw_all := lw_g (lw_at lw_m7 214 rfl) rfl
theorem q1778 : (Jvm.Cond.methodLink "LassoFinder$Search" (153 : Nat) ({ cls := "LassoFinder$Search", name := "spread", desc := "()V" } : Jvm.MethodName)) ∈ lw_all := lw_g (lw_at lw_m7 238 rfl) rfl
theorem q1780 : (Jvm.Cond.instanceMethod ({ cls := "LassoFinder$Search", name := "spread", desc := "()V" } : Jvm.MethodName)) ∈ lw_all := lw_g (lw_at lw_m8 0 rfl) rfl
theorem q1783 : (Jvm.Cond.methodLink "LassoFinder$Search" (156 : Nat) ({ cls := "LassoFinder$Formula", name := "is", desc := "(II)Z" } : Jvm.MethodName)) ∈ lw_all := lw_g (lw_at lw_m8 3 rfl) rfl
theorem q1784 : (Jvm.Cond.methodLink "LassoFinder$Search" (165 : Nat) ({ cls := "LassoFinder$Search", name := "nearer", desc := "(IIII)I" } : Jvm.MethodName)) ∈ lw_all := lw_g (lw_at lw_m8 4 rfl) rfl
theorem q1786 : (Jvm.Cond.instanceMethod ({ cls := "LassoFinder$Search", name := "nearer", desc := "(IIII)I" } : Jvm.MethodName)) ∈ lw_all := lw_g (lw_at lw_m8 6 rfl) rfl
theorem q1788 : (Jvm.Cond.methodLink "LassoFinder$Search" (172 : Nat) ({ cls := "LassoFinder$Search", name := "turn", desc := "(II)V" } : Jvm.MethodName)) ∈ lw_all := lw_g (lw_at lw_m8 8 rfl) rfl
theorem q1790 : (Jvm.Cond.instanceMethod ({ cls := "LassoFinder$Search", name := "turn", desc := "(II)V" } : Jvm.MethodName)) ∈ lw_all := lw_g (lw_at lw_m8 10 rfl) rfl
theorem fl818 : zfl 818 2 "LassoFinder$Search" "stem" "[I" true := ⟨rfl, rfl, rfl⟩
theorem fr818 {g : zG} {v : Int} : zok g (2, v) → zokt g (zft 818) v := fun h => h
theorem fl821 : zfl 821 0 "LassoFinder$Search" "stems" "I" false := ⟨rfl, rfl, rfl⟩
theorem fr821 {g : zG} {v : Int} : zok g (0, v) → zokt g (zft 821) v := fun h => h
abbrev cX8_falsifies : ByteArray := prog_18_method_11_code
def yX8_falsifies : MethodName := ⟨RX8, "falsifies", "(LLassoFinder$Formula;)Z"⟩
theorem dX8_falsifies_0 : decode cX8_falsifies 0 = .ok (.aload_n 0, 1) := by decide +kernel
theorem dX8_falsifies_1 : decode cX8_falsifies 1 = .ok (.invokevirtual 147, 3) := by decide +kernel
theorem dX8_falsifies_4 : decode cX8_falsifies 4 = .ok (.aload_n 0, 1) := by decide +kernel
theorem dX8_falsifies_5 : decode cX8_falsifies 5 = .ok (.invokevirtual 150, 3) := by decide +kernel
theorem dX8_falsifies_8 : decode cX8_falsifies 8 = .ok (.aload_n 0, 1) := by decide +kernel
theorem dX8_falsifies_9 : decode cX8_falsifies 9 = .ok (.invokevirtual 153, 3) := by decide +kernel
theorem dX8_falsifies_12 : decode cX8_falsifies 12 = .ok (.sipush 30000, 3) := by decide +kernel
theorem dX8_falsifies_15 : decode cX8_falsifies 15 = .ok (.istore_n 2, 1) := by decide +kernel
theorem dX8_falsifies_16 : decode cX8_falsifies 16 = .ok (.iconst 0, 1) := by decide +kernel
theorem dX8_falsifies_17 : decode cX8_falsifies 17 = .ok (.istore_n 3, 1) := by decide +kernel
theorem dX8_falsifies_18 : decode cX8_falsifies 18 = .ok (.iload_n 3, 1) := by decide +kernel
theorem dX8_falsifies_19 : decode cX8_falsifies 19 = .ok (.aload_n 0, 1) := by decide +kernel
theorem dX8_falsifies_20 : decode cX8_falsifies 20 = .ok (.invokevirtual 93, 3) := by decide +kernel
theorem dX8_falsifies_23 : decode cX8_falsifies 23 = .ok (.if_icmp .ge 36, 3) := by decide +kernel
theorem dX8_falsifies_26 : decode cX8_falsifies 26 = .ok (.aload_n 1, 1) := by decide +kernel
theorem dX8_falsifies_27 : decode cX8_falsifies 27 = .ok (.aload_n 0, 1) := by decide +kernel
theorem dX8_falsifies_28 : decode cX8_falsifies 28 = .ok (.getfield 9, 3) := by decide +kernel
theorem dX8_falsifies_31 : decode cX8_falsifies 31 = .ok (.iconst 0, 1) := by decide +kernel
theorem dX8_falsifies_32 : decode cX8_falsifies 32 = .ok (.iaload, 1) := by decide +kernel
theorem dX8_falsifies_33 : decode cX8_falsifies 33 = .ok (.iload_n 3, 1) := by decide +kernel
theorem dX8_falsifies_34 : decode cX8_falsifies 34 = .ok (.invokeinterface 156 3, 5) := by decide +kernel
theorem dX8_falsifies_39 : decode cX8_falsifies 39 = .ok (.ifCond .ne 14, 3) := by decide +kernel
theorem dX8_falsifies_42 : decode cX8_falsifies 42 = .ok (.iload_n 2, 1) := by decide +kernel
theorem dX8_falsifies_43 : decode cX8_falsifies 43 = .ok (.aload_n 0, 1) := by decide +kernel
theorem dX8_falsifies_44 : decode cX8_falsifies 44 = .ok (.getfield 46, 3) := by decide +kernel
theorem dX8_falsifies_47 : decode cX8_falsifies 47 = .ok (.iload_n 3, 1) := by decide +kernel
theorem dX8_falsifies_48 : decode cX8_falsifies 48 = .ok (.iaload, 1) := by decide +kernel
theorem dX8_falsifies_49 : decode cX8_falsifies 49 = .ok (.invokestatic 132, 3) := by decide +kernel
theorem dX8_falsifies_52 : decode cX8_falsifies 52 = .ok (.istore_n 2, 1) := by decide +kernel
theorem dX8_falsifies_53 : decode cX8_falsifies 53 = .ok (.iinc 3 1, 3) := by decide +kernel
theorem dX8_falsifies_56 : decode cX8_falsifies 56 = .ok (.goto (-38), 3) := by decide +kernel
theorem dX8_falsifies_59 : decode cX8_falsifies 59 = .ok (.iload_n 2, 1) := by decide +kernel
theorem dX8_falsifies_60 : decode cX8_falsifies 60 = .ok (.sipush 30000, 3) := by decide +kernel
theorem dX8_falsifies_63 : decode cX8_falsifies 63 = .ok (.if_icmp .ne 5, 3) := by decide +kernel
theorem dX8_falsifies_66 : decode cX8_falsifies 66 = .ok (.iconst 0, 1) := by decide +kernel
theorem dX8_falsifies_67 : decode cX8_falsifies 67 = .ok (.ireturn, 1) := by decide +kernel
theorem dX8_falsifies_68 : decode cX8_falsifies 68 = .ok (.iconst 0, 1) := by decide +kernel
theorem dX8_falsifies_69 : decode cX8_falsifies 69 = .ok (.istore_n 3, 1) := by decide +kernel
theorem dX8_falsifies_70 : decode cX8_falsifies 70 = .ok (.iconst 0, 1) := by decide +kernel
theorem dX8_falsifies_71 : decode cX8_falsifies 71 = .ok (.istore 4, 2) := by decide +kernel
theorem dX8_falsifies_73 : decode cX8_falsifies 73 = .ok (.iload 4, 2) := by decide +kernel
theorem dX8_falsifies_75 : decode cX8_falsifies 75 = .ok (.aload_n 0, 1) := by decide +kernel
theorem dX8_falsifies_76 : decode cX8_falsifies 76 = .ok (.invokevirtual 93, 3) := by decide +kernel
theorem dX8_falsifies_79 : decode cX8_falsifies 79 = .ok (.if_icmp .ge 44, 3) := by decide +kernel
theorem dX8_falsifies_82 : decode cX8_falsifies 82 = .ok (.aload_n 1, 1) := by decide +kernel
theorem dX8_falsifies_83 : decode cX8_falsifies 83 = .ok (.aload_n 0, 1) := by decide +kernel
theorem dX8_falsifies_84 : decode cX8_falsifies 84 = .ok (.getfield 9, 3) := by decide +kernel
theorem dX8_falsifies_87 : decode cX8_falsifies 87 = .ok (.iconst 0, 1) := by decide +kernel
theorem dX8_falsifies_88 : decode cX8_falsifies 88 = .ok (.iaload, 1) := by decide +kernel
theorem dX8_falsifies_89 : decode cX8_falsifies 89 = .ok (.iload 4, 2) := by decide +kernel
theorem dX8_falsifies_91 : decode cX8_falsifies 91 = .ok (.invokeinterface 156 3, 5) := by decide +kernel
theorem dX8_falsifies_96 : decode cX8_falsifies 96 = .ok (.ifCond .ne 21, 3) := by decide +kernel
theorem dX8_falsifies_99 : decode cX8_falsifies 99 = .ok (.aload_n 0, 1) := by decide +kernel
theorem dX8_falsifies_100 : decode cX8_falsifies 100 = .ok (.getfield 46, 3) := by decide +kernel
theorem dX8_falsifies_103 : decode cX8_falsifies 103 = .ok (.iload 4, 2) := by decide +kernel
theorem dX8_falsifies_105 : decode cX8_falsifies 105 = .ok (.iaload, 1) := by decide +kernel
theorem dX8_falsifies_106 : decode cX8_falsifies 106 = .ok (.iload_n 2, 1) := by decide +kernel
theorem dX8_falsifies_107 : decode cX8_falsifies 107 = .ok (.if_icmp .ne 10, 3) := by decide +kernel
theorem dX8_falsifies_110 : decode cX8_falsifies 110 = .ok (.iload_n 3, 1) := by decide +kernel
theorem dX8_falsifies_111 : decode cX8_falsifies 111 = .ok (.iconst 1, 1) := by decide +kernel
theorem dX8_falsifies_112 : decode cX8_falsifies 112 = .ok (.iload 4, 2) := by decide +kernel
theorem dX8_falsifies_114 : decode cX8_falsifies 114 = .ok (.ishl, 1) := by decide +kernel
theorem dX8_falsifies_115 : decode cX8_falsifies 115 = .ok (.ior, 1) := by decide +kernel
theorem dX8_falsifies_116 : decode cX8_falsifies 116 = .ok (.istore_n 3, 1) := by decide +kernel
theorem dX8_falsifies_117 : decode cX8_falsifies 117 = .ok (.iinc 4 1, 3) := by decide +kernel
theorem dX8_falsifies_120 : decode cX8_falsifies 120 = .ok (.goto (-47), 3) := by decide +kernel
theorem dX8_falsifies_123 : decode cX8_falsifies 123 = .ok (.aload_n 0, 1) := by decide +kernel
theorem dX8_falsifies_124 : decode cX8_falsifies 124 = .ok (.iload_n 2, 1) := by decide +kernel
theorem dX8_falsifies_125 : decode cX8_falsifies 125 = .ok (.putfield 162, 3) := by decide +kernel
theorem dX8_falsifies_128 : decode cX8_falsifies 128 = .ok (.iconst 0, 1) := by decide +kernel
theorem dX8_falsifies_129 : decode cX8_falsifies 129 = .ok (.istore 4, 2) := by decide +kernel
theorem dX8_falsifies_131 : decode cX8_falsifies 131 = .ok (.iconst 0, 1) := by decide +kernel
theorem dX8_falsifies_132 : decode cX8_falsifies 132 = .ok (.istore 5, 2) := by decide +kernel
theorem dX8_falsifies_134 : decode cX8_falsifies 134 = .ok (.iload 5, 2) := by decide +kernel
theorem dX8_falsifies_136 : decode cX8_falsifies 136 = .ok (.aload_n 0, 1) := by decide +kernel
theorem dX8_falsifies_137 : decode cX8_falsifies 137 = .ok (.getfield 162, 3) := by decide +kernel
theorem dX8_falsifies_140 : decode cX8_falsifies 140 = .ok (.if_icmp .ge 118, 3) := by decide +kernel
theorem dX8_falsifies_143 : decode cX8_falsifies 143 = .ok (.aload_n 0, 1) := by decide +kernel
theorem dX8_falsifies_144 : decode cX8_falsifies 144 = .ok (.getfield 64, 3) := by decide +kernel
theorem dX8_falsifies_147 : decode cX8_falsifies 147 = .ok (.getfield 113, 3) := by decide +kernel
theorem dX8_falsifies_150 : decode cX8_falsifies 150 = .ok (.iload 4, 2) := by decide +kernel
theorem dX8_falsifies_152 : decode cX8_falsifies 152 = .ok (.iaload, 1) := by decide +kernel
theorem dX8_falsifies_153 : decode cX8_falsifies 153 = .ok (.istore 6, 2) := by decide +kernel
theorem dX8_falsifies_155 : decode cX8_falsifies 155 = .ok (.iload 6, 2) := by decide +kernel
theorem dX8_falsifies_157 : decode cX8_falsifies 157 = .ok (.iconst 1, 1) := by decide +kernel
theorem dX8_falsifies_158 : decode cX8_falsifies 158 = .ok (.iadd, 1) := by decide +kernel
theorem dX8_falsifies_159 : decode cX8_falsifies 159 = .ok (.aload_n 0, 1) := by decide +kernel
theorem dX8_falsifies_160 : decode cX8_falsifies 160 = .ok (.getfield 64, 3) := by decide +kernel
theorem dX8_falsifies_163 : decode cX8_falsifies 163 = .ok (.getfield 113, 3) := by decide +kernel
theorem dX8_falsifies_166 : decode cX8_falsifies 166 = .ok (.iload 4, 2) := by decide +kernel
theorem dX8_falsifies_168 : decode cX8_falsifies 168 = .ok (.iconst 1, 1) := by decide +kernel
theorem dX8_falsifies_169 : decode cX8_falsifies 169 = .ok (.iadd, 1) := by decide +kernel
theorem dX8_falsifies_170 : decode cX8_falsifies 170 = .ok (.iaload, 1) := by decide +kernel
theorem dX8_falsifies_171 : decode cX8_falsifies 171 = .ok (.if_icmp .ge 30, 3) := by decide +kernel
theorem dX8_falsifies_174 : decode cX8_falsifies 174 = .ok (.aload_n 0, 1) := by decide +kernel
theorem dX8_falsifies_175 : decode cX8_falsifies 175 = .ok (.iload 4, 2) := by decide +kernel
theorem dX8_falsifies_177 : decode cX8_falsifies 177 = .ok (.iload_n 3, 1) := by decide +kernel
theorem dX8_falsifies_178 : decode cX8_falsifies 178 = .ok (.iload 6, 2) := by decide +kernel
theorem dX8_falsifies_180 : decode cX8_falsifies 180 = .ok (.aload_n 0, 1) := by decide +kernel
theorem dX8_falsifies_181 : decode cX8_falsifies 181 = .ok (.getfield 162, 3) := by decide +kernel
theorem dX8_falsifies_184 : decode cX8_falsifies 184 = .ok (.iload 5, 2) := by decide +kernel
theorem dX8_falsifies_186 : decode cX8_falsifies 186 = .ok (.isub, 1) := by decide +kernel
theorem dX8_falsifies_187 : decode cX8_falsifies 187 = .ok (.iconst 1, 1) := by decide +kernel
theorem dX8_falsifies_188 : decode cX8_falsifies 188 = .ok (.isub, 1) := by decide +kernel
theorem dX8_falsifies_189 : decode cX8_falsifies 189 = .ok (.invokevirtual 165, 3) := by decide +kernel
theorem dX8_falsifies_192 : decode cX8_falsifies 192 = .ok (.ifCond .ne 9, 3) := by decide +kernel
theorem dX8_falsifies_195 : decode cX8_falsifies 195 = .ok (.iinc 6 1, 3) := by decide +kernel
theorem dX8_falsifies_198 : decode cX8_falsifies 198 = .ok (.goto (-43), 3) := by decide +kernel
theorem dX8_falsifies_201 : decode cX8_falsifies 201 = .ok (.aload_n 0, 1) := by decide +kernel
theorem dX8_falsifies_202 : decode cX8_falsifies 202 = .ok (.iload 4, 2) := by decide +kernel
theorem dX8_falsifies_204 : decode cX8_falsifies 204 = .ok (.iload_n 3, 1) := by decide +kernel
theorem dX8_falsifies_205 : decode cX8_falsifies 205 = .ok (.iload 6, 2) := by decide +kernel
theorem dX8_falsifies_207 : decode cX8_falsifies 207 = .ok (.aload_n 0, 1) := by decide +kernel
theorem dX8_falsifies_208 : decode cX8_falsifies 208 = .ok (.getfield 162, 3) := by decide +kernel
theorem dX8_falsifies_211 : decode cX8_falsifies 211 = .ok (.iload 5, 2) := by decide +kernel
theorem dX8_falsifies_213 : decode cX8_falsifies 213 = .ok (.isub, 1) := by decide +kernel
theorem dX8_falsifies_214 : decode cX8_falsifies 214 = .ok (.iconst 1, 1) := by decide +kernel
theorem dX8_falsifies_215 : decode cX8_falsifies 215 = .ok (.isub, 1) := by decide +kernel
theorem dX8_falsifies_216 : decode cX8_falsifies 216 = .ok (.invokevirtual 165, 3) := by decide +kernel
theorem dX8_falsifies_219 : decode cX8_falsifies 219 = .ok (.istore_n 3, 1) := by decide +kernel
theorem dX8_falsifies_220 : decode cX8_falsifies 220 = .ok (.aload_n 0, 1) := by decide +kernel
theorem dX8_falsifies_221 : decode cX8_falsifies 221 = .ok (.getfield 55, 3) := by decide +kernel
theorem dX8_falsifies_224 : decode cX8_falsifies 224 = .ok (.iload 5, 2) := by decide +kernel
theorem dX8_falsifies_226 : decode cX8_falsifies 226 = .ok (.iload 6, 2) := by decide +kernel
theorem dX8_falsifies_228 : decode cX8_falsifies 228 = .ok (.aload_n 0, 1) := by decide +kernel
theorem dX8_falsifies_229 : decode cX8_falsifies 229 = .ok (.getfield 64, 3) := by decide +kernel
theorem dX8_falsifies_232 : decode cX8_falsifies 232 = .ok (.getfield 113, 3) := by decide +kernel
theorem dX8_falsifies_235 : decode cX8_falsifies 235 = .ok (.iload 4, 2) := by decide +kernel
theorem dX8_falsifies_237 : decode cX8_falsifies 237 = .ok (.iaload, 1) := by decide +kernel
theorem dX8_falsifies_238 : decode cX8_falsifies 238 = .ok (.isub, 1) := by decide +kernel
theorem dX8_falsifies_239 : decode cX8_falsifies 239 = .ok (.iastore, 1) := by decide +kernel
theorem dX8_falsifies_240 : decode cX8_falsifies 240 = .ok (.aload_n 0, 1) := by decide +kernel
theorem dX8_falsifies_241 : decode cX8_falsifies 241 = .ok (.getfield 64, 3) := by decide +kernel
theorem dX8_falsifies_244 : decode cX8_falsifies 244 = .ok (.getfield 106, 3) := by decide +kernel
theorem dX8_falsifies_247 : decode cX8_falsifies 247 = .ok (.iload 6, 2) := by decide +kernel
theorem dX8_falsifies_249 : decode cX8_falsifies 249 = .ok (.iaload, 1) := by decide +kernel
theorem dX8_falsifies_250 : decode cX8_falsifies 250 = .ok (.istore 4, 2) := by decide +kernel
theorem dX8_falsifies_252 : decode cX8_falsifies 252 = .ok (.iinc 5 1, 3) := by decide +kernel
theorem dX8_falsifies_255 : decode cX8_falsifies 255 = .ok (.goto (-121), 3) := by decide +kernel
theorem dX8_falsifies_258 : decode cX8_falsifies 258 = .ok (.aload_n 0, 1) := by decide +kernel
theorem dX8_falsifies_259 : decode cX8_falsifies 259 = .ok (.sipush 3840, 3) := by decide +kernel
theorem dX8_falsifies_262 : decode cX8_falsifies 262 = .ok (.putfield 169, 3) := by decide +kernel
theorem dX8_falsifies_265 : decode cX8_falsifies 265 = .ok (.iconst 0, 1) := by decide +kernel
theorem dX8_falsifies_266 : decode cX8_falsifies 266 = .ok (.istore 5, 2) := by decide +kernel
theorem dX8_falsifies_268 : decode cX8_falsifies 268 = .ok (.iload 5, 2) := by decide +kernel
theorem dX8_falsifies_270 : decode cX8_falsifies 270 = .ok (.aload_n 0, 1) := by decide +kernel
theorem dX8_falsifies_271 : decode cX8_falsifies 271 = .ok (.invokevirtual 93, 3) := by decide +kernel
theorem dX8_falsifies_274 : decode cX8_falsifies 274 = .ok (.if_icmp .ge 27, 3) := by decide +kernel
theorem dX8_falsifies_277 : decode cX8_falsifies 277 = .ok (.iload_n 3, 1) := by decide +kernel
theorem dX8_falsifies_278 : decode cX8_falsifies 278 = .ok (.iload 5, 2) := by decide +kernel
theorem dX8_falsifies_280 : decode cX8_falsifies 280 = .ok (.ishr, 1) := by decide +kernel
theorem dX8_falsifies_281 : decode cX8_falsifies 281 = .ok (.iconst 1, 1) := by decide +kernel
theorem dX8_falsifies_282 : decode cX8_falsifies 282 = .ok (.iand, 1) := by decide +kernel
theorem dX8_falsifies_283 : decode cX8_falsifies 283 = .ok (.iconst 1, 1) := by decide +kernel
theorem dX8_falsifies_284 : decode cX8_falsifies 284 = .ok (.if_icmp .ne 11, 3) := by decide +kernel
theorem dX8_falsifies_287 : decode cX8_falsifies 287 = .ok (.aload_n 0, 1) := by decide +kernel
theorem dX8_falsifies_288 : decode cX8_falsifies 288 = .ok (.iload 4, 2) := by decide +kernel
theorem dX8_falsifies_290 : decode cX8_falsifies 290 = .ok (.iload 5, 2) := by decide +kernel
theorem dX8_falsifies_292 : decode cX8_falsifies 292 = .ok (.invokevirtual 172, 3) := by decide +kernel
theorem dX8_falsifies_295 : decode cX8_falsifies 295 = .ok (.iinc 5 1, 3) := by decide +kernel
theorem dX8_falsifies_298 : decode cX8_falsifies 298 = .ok (.goto (-30), 3) := by decide +kernel
theorem dX8_falsifies_301 : decode cX8_falsifies 301 = .ok (.iconst 1, 1) := by decide +kernel
theorem dX8_falsifies_302 : decode cX8_falsifies 302 = .ok (.ireturn, 1) := by decide +kernel
abbrev MX8_falsifies : zT := (yX8_falsifies, cX8_falsifies, 7, (Option.some Jvm.ClassFile.FieldType.boolean), [])
theorem plX8_falsifies : zplain MX8_falsifies 1 ∧ (zcodeW MX8_falsifies ∈ lw_all ∧ Cond.initialized MX8_falsifies.1.cls ∈ lw_all) := ⟨⟨by decide +kernel, by decide +kernel⟩, q1683, q126⟩
noncomputable def f_X8_falsifies_301 (σ : zM) : Option zO :=
  zgd (z01 1) <|
  some (0, zi 1, σ)
theorem w_X8_falsifies_301 {g : zG} {lv : Nat} {out : zO} (σ : zM) {r : zO} (h : f_X8_falsifies_301  σ = some r) (hk : (fun o : zO => o = out) r) : Gj g MX8_falsifies (lv + 44) 301 [] [] σ out := by
  revert h
  unfold f_X8_falsifies_301
  refine zst_ (gj_iconst (pc := 301) dX8_falsifies_301 (by decide)) ?_
  refine gb_gd (fun hb => ?_)
  intro h
  cases h
  have hk : (0, zi 1, σ) = out := hk
  subst hk
  exact gj_ret (pc := 302) (t := .boolean) dX8_falsifies_302 rfl ⟨rfl, rfl⟩ (fun _ => z01E hb)
noncomputable def f_X8_falsifies_295 (x0 x3 x4 x5 : Int) (σ : zM) : Option ((Int × zM) ⊕ zO) :=
  zlet (zadd x5 1) fun y1 =>
  some (.inl (y1, σ))
theorem w_X8_falsifies_295 {g : zG} {lv : Nat} {out : zO} (x0 x3 x4 x5 : Int) (σ : zM) {r : ((Int × zM) ⊕ zO)} (h : f_X8_falsifies_295 x0 x3 x4 x5 σ = some r) (hk : (zKL (fun s : Int × zM => Gj g MX8_falsifies (lv + 44) 268 [(0, zr x0), (3, zi x3), (4, zi x4), (5, zi s.1)] [] s.2 out) (fun o : zO => o = out)) r) : Gj g MX8_falsifies (lv + 44) 295 [(0, zr x0), (3, zi x3), (4, zi x4), (5, zi x5)] [] σ out := by
  revert h
  unfold f_X8_falsifies_295
  refine gb_iinc (pc := 295) 3 (fun y1 => [(5, zi y1), (0, zr x0), (3, zi x3), (4, zi x4)]) dX8_falsifies_295 rfl (by decide) (fun _ => rfl) (fun y1 => ?_)
  refine zst_ (gj_goto 268 (pc := 298) dX8_falsifies_298 (by decide)) ?_
  refine zst_ (gj_sub [1, 2, 3, 0] rfl) ?_
  intro h
  cases h
  exact hk
noncomputable def f_X8_falsifies_268_b (x0 x3 x4 x5 : Int) (σ : zM) : Option ((Int × zM) ⊕ zO) :=
  zgd (zis σ 9 x0) <|
  zci (f_X8_kinds x0 σ) fun v1 σ2 =>
  if v1 ≤ x5 then
    (f_X8_falsifies_301 σ2).map (fun r => (.inr r))
  else
    if (zand (zshr x3 x5) 1) ≠ 1 then
      f_X8_falsifies_295 x0 x3 x4 x5 σ2
    else
      zgd (zis σ2 9 x0) <|
      zcv (f_X8_turn x0 x4 x5 σ2) fun σ3 =>
      f_X8_falsifies_295 x0 x3 x4 x5 σ3
noncomputable def f_X8_falsifies_268 (x0 x3 x4 x5 : Int) (σ : zM) : Option zO :=
  zloop (fun s : Int × zM => f_X8_falsifies_268_b x0 x3 x4 s.1 s.2) (x5, σ)
theorem w_X8_falsifies_268_b {g : zG} {lv : Nat} {out : zO} (x0 x3 x4 x5 : Int) (σ : zM) {r : ((Int × zM) ⊕ zO)} (h : f_X8_falsifies_268_b x0 x3 x4 x5 σ = some r) (hk : (zKL (fun s : Int × zM => Gj g MX8_falsifies (lv + 44) 268 [(0, zr x0), (3, zi x3), (4, zi x4), (5, zi s.1)] [] s.2 out) (fun o : zO => o = out)) r) : Gj g MX8_falsifies (lv + 44) 268 [(0, zr x0), (3, zi x3), (4, zi x4), (5, zi x5)] [] σ out := by
  revert h
  unfold f_X8_falsifies_268_b
  refine zst_ (gj_iload 3 (pc := 268) dX8_falsifies_268 rfl) ?_
  refine zst_ (gj_aload_n 0 (pc := 270) dX8_falsifies_270 rfl) ?_
  refine gb_gd (fun hb => ?_)
  refine gb_callI (pc := 271) (as := [zr x0]) (rest := [zi x5]) (zCl.of (zLk_V (M := MX8_falsifies) (ci := 8) (r := (RX8, TX8, 23)) plX8_kinds.1 rfl rfl (zisE hb).1 (zisE hb).2 dX8_falsifies_271 q1699 q1701 qs30 q1702) plX8_kinds (Nat.le_of_ble_eq_true rfl) (fun h => c_X8_kinds h)) (fun v1 σ2 => ?_)
  refine gb_if (gj_icmp_ge 301 (pc := 274) dX8_falsifies_274 (by decide)) ?_ ?_
  · refine zst_ (gj_sub [] rfl) ?_
    intro h
    obtain ⟨r0, h0, rfl⟩ := zmE h
    exact w_X8_falsifies_301 σ2 h0 hk
  · refine zst_ (gj_iload_n 1 (pc := 277) dX8_falsifies_277 rfl) ?_
    refine zst_ (gj_iload 3 (pc := 278) dX8_falsifies_278 rfl) ?_
    refine zst_ (gj_ishr (pc := 280) dX8_falsifies_280) ?_
    refine zst_ (gj_iconst (pc := 281) dX8_falsifies_281 (by decide)) ?_
    refine zst_ (gj_iand (pc := 282) dX8_falsifies_282) ?_
    refine zst_ (gj_iconst (pc := 283) dX8_falsifies_283 (by decide)) ?_
    refine gb_if (gj_icmp_ne 295 (pc := 284) dX8_falsifies_284 (by decide)) ?_ ?_
    · exact fun h => w_X8_falsifies_295 x0 x3 x4 x5 σ2 h hk
    · refine zst_ (gj_aload_n 0 (pc := 287) dX8_falsifies_287 rfl) ?_
      refine zst_ (gj_iload 2 (pc := 288) dX8_falsifies_288 rfl) ?_
      refine zst_ (gj_iload 3 (pc := 290) dX8_falsifies_290 rfl) ?_
      refine gb_gd (fun hb => ?_)
      refine gb_callV (pc := 292) (as := [zr x0, zi x4, zi x5]) (rest := []) (zCl.of (zLk_V (M := MX8_falsifies) (ci := 8) (r := (RX8, TX8, 23)) plX8_turn.1 rfl rfl (zisE hb).1 (zisE hb).2 dX8_falsifies_292 q1788 q1790 qs39 q1791) plX8_turn (Nat.le_of_ble_eq_true rfl) (fun h => c_X8_turn h)) (fun σ3 => ?_)
      exact fun h => w_X8_falsifies_295 x0 x3 x4 x5 σ3 h hk
theorem w_X8_falsifies_268 {g : zG} {lv : Nat} {out : zO} (x0 x3 x4 x5 : Int) (σ : zM) {r : zO} (h : f_X8_falsifies_268 x0 x3 x4 x5 σ = some r) (hk : (fun o : zO => o = out) r) : Gj g MX8_falsifies (lv + 44) 268 [(0, zr x0), (3, zi x3), (4, zi x4), (5, zi x5)] [] σ out :=
  gj_loop (P := (fun s : Int × zM => Gj g MX8_falsifies (lv + 44) 268 [(0, zr x0), (3, zi x3), (4, zi x4), (5, zi s.1)] [] s.2 out)) (fun s x hb hx => w_X8_falsifies_268_b x0 x3 x4 s.1 s.2 hb hx) h hk
noncomputable def f_X8_falsifies_258 (x0 x3 x4 : Int) (σ : zM) : Option zO :=
  (zpf σ 822 x0 3840).bind fun σ1 =>
  f_X8_falsifies_268 x0 x3 x4 0 σ1
theorem w_X8_falsifies_258 {g : zG} {lv : Nat} {out : zO} (x0 x3 x4 : Int) (σ : zM) {r : zO} (h : f_X8_falsifies_258 x0 x3 x4 σ = some r) (hk : (fun o : zO => o = out) r) : Gj g MX8_falsifies (lv + 44) 258 [(0, zr x0), (3, zi x3), (4, zi x4)] [] σ out := by
  revert h
  unfold f_X8_falsifies_258
  refine zst_ (gj_aload_n 0 (pc := 258) dX8_falsifies_258 rfl) ?_
  refine zst_ (gj_sipush (pc := 259) dX8_falsifies_259 ⟨rfl, by decide⟩) ?_
  refine gb_put (pc := 262) fl822 fr822 dX8_falsifies_262 q791 (Or.inl rfl) (fun σ1 => ?_)
  refine zst_ (gj_iconst (pc := 265) dX8_falsifies_265 (by decide)) ?_
  refine zst_ (gj_istore (pc := 266) (ls' := [(5, zi 0), (0, zr x0), (3, zi x3), (4, zi x4)]) dX8_falsifies_266 (by decide) rfl) ?_
  refine zst_ (gj_sub [1, 2, 3, 0] rfl) ?_
  exact fun h => w_X8_falsifies_268 x0 x3 x4 0 σ1 h hk
noncomputable def f_X8_falsifies_201 (x0 x3 x4 x5 x6 : Int) (σ : zM) : Option ((Int × Int × Int × zM) ⊕ zO) :=
  (zgf σ 821 x0).bind fun v1 =>
  zgd (zis σ 9 x0) <|
  zci (f_X8_nearer x0 x4 x3 x6 (zsub (zsub v1 x5) 1) σ) fun v2 σ3 =>
  (zgf σ3 818 x0).bind fun v4 =>
  (zgf σ3 800 x0).bind fun v5 =>
  (zgf σ3 215 v5).bind fun v6 =>
  (zga σ3 101 v6 x4).bind fun v7 =>
  (zpa σ3 101 v4 x5 (zsub x6 v7)).bind fun σ8 =>
  (zgf σ8 800 x0).bind fun v9 =>
  (zgf σ8 217 v9).bind fun v10 =>
  (zga σ8 101 v10 x6).bind fun v11 =>
  zlet (zadd x5 1) fun y12 =>
  some (.inl (v2, v11, y12, σ8))
theorem w_X8_falsifies_201 {g : zG} {lv : Nat} {out : zO} (x0 x3 x4 x5 x6 : Int) (σ : zM) {r : ((Int × Int × Int × zM) ⊕ zO)} (h : f_X8_falsifies_201 x0 x3 x4 x5 x6 σ = some r) (hk : (zKL (fun s : Int × Int × Int × zM => Gj g MX8_falsifies (lv + 44) 134 [(0, zr x0), (3, zi s.1), (4, zi s.2.1), (5, zi s.2.2.1)] [] s.2.2.2 out) (fun o : zO => o = out)) r) : Gj g MX8_falsifies (lv + 44) 201 [(0, zr x0), (3, zi x3), (4, zi x4), (5, zi x5), (6, zi x6)] [] σ out := by
  revert h
  unfold f_X8_falsifies_201
  refine zst_ (gj_aload_n 0 (pc := 201) dX8_falsifies_201 rfl) ?_
  refine zst_ (gj_iload 2 (pc := 202) dX8_falsifies_202 rfl) ?_
  refine zst_ (gj_iload_n 1 (pc := 204) dX8_falsifies_204 rfl) ?_
  refine zst_ (gj_iload 4 (pc := 205) dX8_falsifies_205 rfl) ?_
  refine zst_ (gj_aload_n 0 (pc := 207) dX8_falsifies_207 rfl) ?_
  refine gb_get (pc := 208) fl821 dX8_falsifies_208 q789 (Or.inl rfl) (fun v1 => ?_)
  refine zst_ (gj_iload 3 (pc := 211) dX8_falsifies_211 rfl) ?_
  refine zst_ (gj_isub (pc := 213) dX8_falsifies_213) ?_
  refine zst_ (gj_iconst (pc := 214) dX8_falsifies_214 (by decide)) ?_
  refine zst_ (gj_isub (pc := 215) dX8_falsifies_215) ?_
  refine gb_gd (fun hb => ?_)
  refine gb_callI (pc := 216) (as := [zr x0, zi x4, zi x3, zi x6, zi (zsub (zsub v1 x5) 1)]) (rest := []) (zCl.of (zLk_V (M := MX8_falsifies) (ci := 8) (r := (RX8, TX8, 23)) plX8_nearer.1 rfl rfl (zisE hb).1 (zisE hb).2 dX8_falsifies_216 q1784 q1786 qs38 q1787) plX8_nearer (Nat.le_of_ble_eq_true rfl) (fun h => c_X8_nearer h)) (fun v2 σ3 => ?_)
  refine zst_ (gj_istore_n (pc := 219) (ls' := [(3, zi v2), (0, zr x0), (4, zi x4), (5, zi x5), (6, zi x6)]) dX8_falsifies_219 (by decide) rfl) ?_
  refine zst_ (gj_aload_n 1 (pc := 220) dX8_falsifies_220 rfl) ?_
  refine gb_get (pc := 221) fl818 dX8_falsifies_221 q783 (Or.inl rfl) (fun v4 => ?_)
  refine zst_ (gj_iload 3 (pc := 224) dX8_falsifies_224 rfl) ?_
  refine zst_ (gj_iload 4 (pc := 226) dX8_falsifies_226 rfl) ?_
  refine zst_ (gj_aload_n 1 (pc := 228) dX8_falsifies_228 rfl) ?_
  refine gb_get (pc := 229) fl800 dX8_falsifies_229 q765 (Or.inl rfl) (fun v5 => ?_)
  refine gb_getNe (pc := 232) fl215 dX8_falsifies_232 q301 (Or.inl rfl) (fun v6 => ?_)
  refine zst_ (gj_iload 2 (pc := 235) dX8_falsifies_235 rfl) ?_
  refine gb_iald (pc := 237) dX8_falsifies_237 (fun v7 => ?_)
  refine zst_ (gj_isub (pc := 238) dX8_falsifies_238) ?_
  refine gb_iast (pc := 239) dX8_falsifies_239 (fun σ8 => ?_)
  refine zst_ (gj_aload_n 1 (pc := 240) dX8_falsifies_240 rfl) ?_
  refine gb_get (pc := 241) fl800 dX8_falsifies_241 q765 (Or.inl rfl) (fun v9 => ?_)
  refine gb_getNe (pc := 244) fl217 dX8_falsifies_244 q306 (Or.inl rfl) (fun v10 => ?_)
  refine zst_ (gj_iload 4 (pc := 247) dX8_falsifies_247 rfl) ?_
  refine gb_iald (pc := 249) dX8_falsifies_249 (fun v11 => ?_)
  refine zst_ (gj_istore (pc := 250) (ls' := [(4, zi v11), (3, zi v2), (0, zr x0), (5, zi x5), (6, zi x6)]) dX8_falsifies_250 (by decide) rfl) ?_
  refine gb_iinc (pc := 252) 3 (fun y12 => [(5, zi y12), (4, zi v11), (3, zi v2), (0, zr x0), (6, zi x6)]) dX8_falsifies_252 rfl (by decide) (fun _ => rfl) (fun y12 => ?_)
  refine zst_ (gj_goto 134 (pc := 255) dX8_falsifies_255 (by decide)) ?_
  refine zst_ (gj_sub [3, 2, 1, 0] rfl) ?_
  intro h
  cases h
  exact hk
noncomputable def f_X8_falsifies_155_b (x0 x3 x4 x5 x6 : Int) (σ : zM) : Option ((Int × zM) ⊕ ((Int × Int × Int × zM) ⊕ zO)) :=
  (zgf σ 800 x0).bind fun v1 =>
  (zgf σ 215 v1).bind fun v2 =>
  (zga σ 101 v2 (zadd x4 1)).bind fun v3 =>
  if v3 ≤ (zadd x6 1) then
    (f_X8_falsifies_201 x0 x3 x4 x5 x6 σ).map (fun r => (.inr r))
  else
    (zgf σ 821 x0).bind fun v4 =>
    zgd (zis σ 9 x0) <|
    zci (f_X8_nearer x0 x4 x3 x6 (zsub (zsub v4 x5) 1) σ) fun v5 σ6 =>
    if v5 ≠ 0 then
      (f_X8_falsifies_201 x0 x3 x4 x5 x6 σ6).map (fun r => (.inr r))
    else
      zlet (zadd x6 1) fun y7 =>
      some (.inl (y7, σ6))
noncomputable def f_X8_falsifies_155 (x0 x3 x4 x5 x6 : Int) (σ : zM) : Option ((Int × Int × Int × zM) ⊕ zO) :=
  zloop (fun s : Int × zM => f_X8_falsifies_155_b x0 x3 x4 x5 s.1 s.2) (x6, σ)
theorem w_X8_falsifies_155_b {g : zG} {lv : Nat} {out : zO} (x0 x3 x4 x5 x6 : Int) (σ : zM) {r : ((Int × zM) ⊕ ((Int × Int × Int × zM) ⊕ zO))} (h : f_X8_falsifies_155_b x0 x3 x4 x5 x6 σ = some r) (hk : (zKL (fun s : Int × zM => Gj g MX8_falsifies (lv + 44) 155 [(0, zr x0), (3, zi x3), (4, zi x4), (5, zi x5), (6, zi s.1)] [] s.2 out) (zKL (fun s : Int × Int × Int × zM => Gj g MX8_falsifies (lv + 44) 134 [(0, zr x0), (3, zi s.1), (4, zi s.2.1), (5, zi s.2.2.1)] [] s.2.2.2 out) (fun o : zO => o = out))) r) : Gj g MX8_falsifies (lv + 44) 155 [(0, zr x0), (3, zi x3), (4, zi x4), (5, zi x5), (6, zi x6)] [] σ out := by
  revert h
  unfold f_X8_falsifies_155_b
  refine zst_ (gj_iload 4 (pc := 155) dX8_falsifies_155 rfl) ?_
  refine zst_ (gj_iconst (pc := 157) dX8_falsifies_157 (by decide)) ?_
  refine zst_ (gj_iadd (pc := 158) dX8_falsifies_158) ?_
  refine zst_ (gj_aload_n 0 (pc := 159) dX8_falsifies_159 rfl) ?_
  refine gb_get (pc := 160) fl800 dX8_falsifies_160 q765 (Or.inl rfl) (fun v1 => ?_)
  refine gb_getNe (pc := 163) fl215 dX8_falsifies_163 q301 (Or.inl rfl) (fun v2 => ?_)
  refine zst_ (gj_iload 2 (pc := 166) dX8_falsifies_166 rfl) ?_
  refine zst_ (gj_iconst (pc := 168) dX8_falsifies_168 (by decide)) ?_
  refine zst_ (gj_iadd (pc := 169) dX8_falsifies_169) ?_
  refine gb_iald (pc := 170) dX8_falsifies_170 (fun v3 => ?_)
  refine gb_if (gj_icmp_ge 201 (pc := 171) dX8_falsifies_171 (by decide)) ?_ ?_
  · intro h
    obtain ⟨r0, h0, rfl⟩ := zmE h
    exact w_X8_falsifies_201 x0 x3 x4 x5 x6 σ h0 hk
  · refine zst_ (gj_aload_n 0 (pc := 174) dX8_falsifies_174 rfl) ?_
    refine zst_ (gj_iload 2 (pc := 175) dX8_falsifies_175 rfl) ?_
    refine zst_ (gj_iload_n 1 (pc := 177) dX8_falsifies_177 rfl) ?_
    refine zst_ (gj_iload 4 (pc := 178) dX8_falsifies_178 rfl) ?_
    refine zst_ (gj_aload_n 0 (pc := 180) dX8_falsifies_180 rfl) ?_
    refine gb_get (pc := 181) fl821 dX8_falsifies_181 q789 (Or.inl rfl) (fun v4 => ?_)
    refine zst_ (gj_iload 3 (pc := 184) dX8_falsifies_184 rfl) ?_
    refine zst_ (gj_isub (pc := 186) dX8_falsifies_186) ?_
    refine zst_ (gj_iconst (pc := 187) dX8_falsifies_187 (by decide)) ?_
    refine zst_ (gj_isub (pc := 188) dX8_falsifies_188) ?_
    refine gb_gd (fun hb => ?_)
    refine gb_callI (pc := 189) (as := [zr x0, zi x4, zi x3, zi x6, zi (zsub (zsub v4 x5) 1)]) (rest := []) (zCl.of (zLk_V (M := MX8_falsifies) (ci := 8) (r := (RX8, TX8, 23)) plX8_nearer.1 rfl rfl (zisE hb).1 (zisE hb).2 dX8_falsifies_189 q1784 q1786 qs38 q1787) plX8_nearer (Nat.le_of_ble_eq_true rfl) (fun h => c_X8_nearer h)) (fun v5 σ6 => ?_)
    refine gb_if (gj_if_ne 201 (pc := 192) dX8_falsifies_192 (by decide)) ?_ ?_
    · intro h
      obtain ⟨r0, h0, rfl⟩ := zmE h
      exact w_X8_falsifies_201 x0 x3 x4 x5 x6 σ6 h0 hk
    · refine gb_iinc (pc := 195) 4 (fun y7 => [(6, zi y7), (0, zr x0), (3, zi x3), (4, zi x4), (5, zi x5)]) dX8_falsifies_195 rfl (by decide) (fun _ => rfl) (fun y7 => ?_)
      refine zst_ (gj_goto 155 (pc := 198) dX8_falsifies_198 (by decide)) ?_
      refine zst_ (gj_sub [1, 2, 3, 4, 0] rfl) ?_
      intro h
      cases h
      exact hk
theorem w_X8_falsifies_155 {g : zG} {lv : Nat} {out : zO} (x0 x3 x4 x5 x6 : Int) (σ : zM) {r : ((Int × Int × Int × zM) ⊕ zO)} (h : f_X8_falsifies_155 x0 x3 x4 x5 x6 σ = some r) (hk : (zKL (fun s : Int × Int × Int × zM => Gj g MX8_falsifies (lv + 44) 134 [(0, zr x0), (3, zi s.1), (4, zi s.2.1), (5, zi s.2.2.1)] [] s.2.2.2 out) (fun o : zO => o = out)) r) : Gj g MX8_falsifies (lv + 44) 155 [(0, zr x0), (3, zi x3), (4, zi x4), (5, zi x5), (6, zi x6)] [] σ out :=
  gj_loop (P := (fun s : Int × zM => Gj g MX8_falsifies (lv + 44) 155 [(0, zr x0), (3, zi x3), (4, zi x4), (5, zi x5), (6, zi s.1)] [] s.2 out)) (fun s x hb hx => w_X8_falsifies_155_b x0 x3 x4 x5 s.1 s.2 hb hx) h hk
noncomputable def f_X8_falsifies_134_b (x0 x3 x4 x5 : Int) (σ : zM) : Option ((Int × Int × Int × zM) ⊕ zO) :=
  (zgf σ 821 x0).bind fun v1 =>
  if v1 ≤ x5 then
    (f_X8_falsifies_258 x0 x3 x4 σ).map (fun r => (.inr r))
  else
    (zgf σ 800 x0).bind fun v2 =>
    (zgf σ 215 v2).bind fun v3 =>
    (zga σ 101 v3 x4).bind fun v4 =>
    f_X8_falsifies_155 x0 x3 x4 x5 v4 σ
noncomputable def f_X8_falsifies_134 (x0 x3 x4 x5 : Int) (σ : zM) : Option zO :=
  zloop (fun s : Int × Int × Int × zM => f_X8_falsifies_134_b x0 s.1 s.2.1 s.2.2.1 s.2.2.2) (x3, x4, x5, σ)
theorem w_X8_falsifies_134_b {g : zG} {lv : Nat} {out : zO} (x0 x3 x4 x5 : Int) (σ : zM) {r : ((Int × Int × Int × zM) ⊕ zO)} (h : f_X8_falsifies_134_b x0 x3 x4 x5 σ = some r) (hk : (zKL (fun s : Int × Int × Int × zM => Gj g MX8_falsifies (lv + 44) 134 [(0, zr x0), (3, zi s.1), (4, zi s.2.1), (5, zi s.2.2.1)] [] s.2.2.2 out) (fun o : zO => o = out)) r) : Gj g MX8_falsifies (lv + 44) 134 [(0, zr x0), (3, zi x3), (4, zi x4), (5, zi x5)] [] σ out := by
  revert h
  unfold f_X8_falsifies_134_b
  refine zst_ (gj_iload 3 (pc := 134) dX8_falsifies_134 rfl) ?_
  refine zst_ (gj_aload_n 0 (pc := 136) dX8_falsifies_136 rfl) ?_
  refine gb_get (pc := 137) fl821 dX8_falsifies_137 q789 (Or.inl rfl) (fun v1 => ?_)
  refine gb_if (gj_icmp_ge 258 (pc := 140) dX8_falsifies_140 (by decide)) ?_ ?_
  · refine zst_ (gj_sub [0, 1, 2] rfl) ?_
    intro h
    obtain ⟨r0, h0, rfl⟩ := zmE h
    exact w_X8_falsifies_258 x0 x3 x4 σ h0 hk
  · refine zst_ (gj_aload_n 0 (pc := 143) dX8_falsifies_143 rfl) ?_
    refine gb_get (pc := 144) fl800 dX8_falsifies_144 q765 (Or.inl rfl) (fun v2 => ?_)
    refine gb_getNe (pc := 147) fl215 dX8_falsifies_147 q301 (Or.inl rfl) (fun v3 => ?_)
    refine zst_ (gj_iload 2 (pc := 150) dX8_falsifies_150 rfl) ?_
    refine gb_iald (pc := 152) dX8_falsifies_152 (fun v4 => ?_)
    refine zst_ (gj_istore (pc := 153) (ls' := [(6, zi v4), (0, zr x0), (3, zi x3), (4, zi x4), (5, zi x5)]) dX8_falsifies_153 (by decide) rfl) ?_
    refine zst_ (gj_sub [1, 2, 3, 4, 0] rfl) ?_
    exact fun h => w_X8_falsifies_155 x0 x3 x4 x5 v4 σ h hk
theorem w_X8_falsifies_134 {g : zG} {lv : Nat} {out : zO} (x0 x3 x4 x5 : Int) (σ : zM) {r : zO} (h : f_X8_falsifies_134 x0 x3 x4 x5 σ = some r) (hk : (fun o : zO => o = out) r) : Gj g MX8_falsifies (lv + 44) 134 [(0, zr x0), (3, zi x3), (4, zi x4), (5, zi x5)] [] σ out :=
  gj_loop (P := (fun s : Int × Int × Int × zM => Gj g MX8_falsifies (lv + 44) 134 [(0, zr x0), (3, zi s.1), (4, zi s.2.1), (5, zi s.2.2.1)] [] s.2.2.2 out)) (fun s x hb hx => w_X8_falsifies_134_b x0 s.1 s.2.1 s.2.2.1 s.2.2.2 hb hx) h hk
noncomputable def f_X8_falsifies_123 (x0 x2 x3 : Int) (σ : zM) : Option zO :=
  (zpf σ 821 x0 x2).bind fun σ1 =>
  f_X8_falsifies_134 x0 x3 0 0 σ1
theorem w_X8_falsifies_123 {g : zG} {lv : Nat} {out : zO} (x0 x2 x3 : Int) (σ : zM) {r : zO} (h : f_X8_falsifies_123 x0 x2 x3 σ = some r) (hk : (fun o : zO => o = out) r) : Gj g MX8_falsifies (lv + 44) 123 [(0, zr x0), (2, zi x2), (3, zi x3)] [] σ out := by
  revert h
  unfold f_X8_falsifies_123
  refine zst_ (gj_aload_n 0 (pc := 123) dX8_falsifies_123 rfl) ?_
  refine zst_ (gj_iload_n 1 (pc := 124) dX8_falsifies_124 rfl) ?_
  refine gb_put (pc := 125) fl821 fr821 dX8_falsifies_125 q789 (Or.inl rfl) (fun σ1 => ?_)
  refine zst_ (gj_iconst (pc := 128) dX8_falsifies_128 (by decide)) ?_
  refine zst_ (gj_istore (pc := 129) (ls' := [(4, zi 0), (0, zr x0), (2, zi x2), (3, zi x3)]) dX8_falsifies_129 (by decide) rfl) ?_
  refine zst_ (gj_iconst (pc := 131) dX8_falsifies_131 (by decide)) ?_
  refine zst_ (gj_istore (pc := 132) (ls' := [(5, zi 0), (4, zi 0), (0, zr x0), (2, zi x2), (3, zi x3)]) dX8_falsifies_132 (by decide) rfl) ?_
  refine zst_ (gj_sub [2, 4, 1, 0] rfl) ?_
  exact fun h => w_X8_falsifies_134 x0 x3 0 0 σ1 h hk
noncomputable def f_X8_falsifies_117 (x0 x1 x2 x3 x4 : Int) (σ : zM) : Option ((Int × Int × zM) ⊕ zO) :=
  zlet (zadd x4 1) fun y1 =>
  some (.inl (x3, y1, σ))
theorem w_X8_falsifies_117 {g : zG} {lv : Nat} {out : zO} (x0 x1 x2 x3 x4 : Int) (σ : zM) {r : ((Int × Int × zM) ⊕ zO)} (h : f_X8_falsifies_117 x0 x1 x2 x3 x4 σ = some r) (hk : (zKL (fun s : Int × Int × zM => Gj g MX8_falsifies (lv + 44) 73 [(0, zr x0), (1, zr x1), (2, zi x2), (3, zi s.1), (4, zi s.2.1)] [] s.2.2 out) (fun o : zO => o = out)) r) : Gj g MX8_falsifies (lv + 44) 117 [(0, zr x0), (1, zr x1), (2, zi x2), (3, zi x3), (4, zi x4)] [] σ out := by
  revert h
  unfold f_X8_falsifies_117
  refine gb_iinc (pc := 117) 4 (fun y1 => [(4, zi y1), (0, zr x0), (1, zr x1), (2, zi x2), (3, zi x3)]) dX8_falsifies_117 rfl (by decide) (fun _ => rfl) (fun y1 => ?_)
  refine zst_ (gj_goto 73 (pc := 120) dX8_falsifies_120 (by decide)) ?_
  refine zst_ (gj_sub [1, 2, 3, 4, 0] rfl) ?_
  intro h
  cases h
  exact hk
noncomputable def f_X8_falsifies_73_b (x0 x1 x2 x3 x4 : Int) (σ : zM) : Option ((Int × Int × zM) ⊕ zO) :=
  zgd (zis σ 9 x0) <|
  zci (f_X8_kinds x0 σ) fun v1 σ2 =>
  if v1 ≤ x4 then
    (f_X8_falsifies_123 x0 x2 x3 σ2).map (fun r => (.inr r))
  else
    (zgf σ2 802 x0).bind fun v3 =>
    (zga σ2 101 v3 0).bind fun v4 =>
    zci ((if zis σ2 17 x1 = true then f_X16_is x1 v4 x4 σ2 else if zis σ2 18 x1 = true then f_G_X17_is 40 0 [x1, v4, x4] σ2 else if zis σ2 20 x1 = true then f_G_X17_is 40 1 [x1, v4, x4] σ2 else if zis σ2 19 x1 = true then f_X18_is x1 v4 x4 σ2 else none)) fun v5 σ6 =>
    if v5 ≠ 0 then
      f_X8_falsifies_117 x0 x1 x2 x3 x4 σ6
    else
      (zgf σ6 815 x0).bind fun v7 =>
      (zga σ6 101 v7 x4).bind fun v8 =>
      if v8 ≠ x2 then
        f_X8_falsifies_117 x0 x1 x2 x3 x4 σ6
      else
        zlet ((zor x3 (zshl 1 x4))) fun y9 =>
        f_X8_falsifies_117 x0 x1 x2 y9 x4 σ6
noncomputable def f_X8_falsifies_73 (x0 x1 x2 x3 x4 : Int) (σ : zM) : Option zO :=
  zloop (fun s : Int × Int × zM => f_X8_falsifies_73_b x0 x1 x2 s.1 s.2.1 s.2.2) (x3, x4, σ)
theorem w_X8_falsifies_73_b {g : zG} {lv : Nat} {out : zO} (x0 x1 x2 x3 x4 : Int) (σ : zM) {r : ((Int × Int × zM) ⊕ zO)} (h : f_X8_falsifies_73_b x0 x1 x2 x3 x4 σ = some r) (hk : (zKL (fun s : Int × Int × zM => Gj g MX8_falsifies (lv + 44) 73 [(0, zr x0), (1, zr x1), (2, zi x2), (3, zi s.1), (4, zi s.2.1)] [] s.2.2 out) (fun o : zO => o = out)) r) : Gj g MX8_falsifies (lv + 44) 73 [(0, zr x0), (1, zr x1), (2, zi x2), (3, zi x3), (4, zi x4)] [] σ out := by
  revert h
  unfold f_X8_falsifies_73_b
  refine zst_ (gj_iload 4 (pc := 73) dX8_falsifies_73 rfl) ?_
  refine zst_ (gj_aload_n 0 (pc := 75) dX8_falsifies_75 rfl) ?_
  refine gb_gd (fun hb => ?_)
  refine gb_callI (pc := 76) (as := [zr x0]) (rest := [zi x4]) (zCl.of (zLk_V (M := MX8_falsifies) (ci := 8) (r := (RX8, TX8, 23)) plX8_kinds.1 rfl rfl (zisE hb).1 (zisE hb).2 dX8_falsifies_76 q1699 q1701 qs30 q1702) plX8_kinds (Nat.le_of_ble_eq_true rfl) (fun h => c_X8_kinds h)) (fun v1 σ2 => ?_)
  refine gb_if (gj_icmp_ge 123 (pc := 79) dX8_falsifies_79 (by decide)) ?_ ?_
  · refine zst_ (gj_sub [0, 2, 3] rfl) ?_
    intro h
    obtain ⟨r0, h0, rfl⟩ := zmE h
    exact w_X8_falsifies_123 x0 x2 x3 σ2 h0 hk
  · refine zst_ (gj_aload_n 1 (pc := 82) dX8_falsifies_82 rfl) ?_
    refine zst_ (gj_aload_n 0 (pc := 83) dX8_falsifies_83 rfl) ?_
    refine gb_get (pc := 84) fl802 dX8_falsifies_84 q767 (Or.inl rfl) (fun v3 => ?_)
    refine zst_ (gj_iconst (pc := 87) dX8_falsifies_87 (by decide)) ?_
    refine gb_iald (pc := 88) dX8_falsifies_88 (fun v4 => ?_)
    refine zst_ (gj_iload 4 (pc := 89) dX8_falsifies_89 rfl) ?_
    refine gb_callI (pc := 91) (as := [zr x1, zi v4, zi x4]) (rest := []) (zCl.ite (fun hb => zCl.of (zLk_F (M := MX8_falsifies) (ci := 16) (r := (RX16, TX16, 1)) (x := ⟨"LassoFinder$Formula", "is", "(II)Z"⟩) plX16_is.1 ⟨rfl, rfl⟩ (by decide) rfl rfl (zisE hb).1 (zisE hb).2 dX8_falsifies_91 q1783 q1734 q1732 q1736 q1714 q1713 q1735 q1733 q1731) plX16_is (Nat.le_of_ble_eq_true rfl) (fun h => c_X16_is h)) (zCl.ite (fun hb => zCl.of (zLk_F (M := MX8_falsifies) (ci := 17) (r := (RX17, TX17, 1)) (x := ⟨"LassoFinder$Formula", "is", "(II)Z"⟩) plX17_is.1 ⟨rfl, rfl⟩ (by decide) rfl rfl (zisE hb).1 (zisE hb).2 dX8_falsifies_91 q1783 q1726 q1724 q1728 q1714 q1713 q1727 q1725 q1723) plX17_is (Nat.le_of_ble_eq_true rfl) (fun h => c_G_X17_is_0 h)) (zCl.ite (fun hb => zCl.of (zLk_F (M := MX8_falsifies) (ci := 19) (r := (RX19, TX19, 3)) (x := ⟨"LassoFinder$Formula", "is", "(II)Z"⟩) plX19_is.1 ⟨rfl, rfl⟩ (by decide) rfl rfl (zisE hb).1 (zisE hb).2 dX8_falsifies_91 q1783 q1718 q1716 q1720 q1714 q1713 q1719 q1717 q1715) plX19_is (Nat.le_of_ble_eq_true rfl) (fun h => c_G_X17_is_1 h)) (zCl.ite (fun hb => zCl.of (zLk_F (M := MX8_falsifies) (ci := 18) (r := (RX18, TX18, 4)) (x := ⟨"LassoFinder$Formula", "is", "(II)Z"⟩) plX18_is.1 ⟨rfl, rfl⟩ (by decide) rfl rfl (zisE hb).1 (zisE hb).2 dX8_falsifies_91 q1783 q1740 q1738 q1742 q1714 q1713 q1741 q1739 q1737) plX18_is (Nat.le_of_ble_eq_true rfl) (fun h => c_X18_is h)) zCl.no)))) (fun v5 σ6 => ?_)
    refine gb_if (gj_if_ne 117 (pc := 96) dX8_falsifies_96 (by decide)) ?_ ?_
    · exact fun h => w_X8_falsifies_117 x0 x1 x2 x3 x4 σ6 h hk
    · refine zst_ (gj_aload_n 0 (pc := 99) dX8_falsifies_99 rfl) ?_
      refine gb_get (pc := 100) fl815 dX8_falsifies_100 q780 (Or.inl rfl) (fun v7 => ?_)
      refine zst_ (gj_iload 4 (pc := 103) dX8_falsifies_103 rfl) ?_
      refine gb_iald (pc := 105) dX8_falsifies_105 (fun v8 => ?_)
      refine zst_ (gj_iload_n 2 (pc := 106) dX8_falsifies_106 rfl) ?_
      refine gb_if (gj_icmp_ne 117 (pc := 107) dX8_falsifies_107 (by decide)) ?_ ?_
      · exact fun h => w_X8_falsifies_117 x0 x1 x2 x3 x4 σ6 h hk
      · refine zst_ (gj_iload_n 3 (pc := 110) dX8_falsifies_110 rfl) ?_
        refine zst_ (gj_iconst (pc := 111) dX8_falsifies_111 (by decide)) ?_
        refine zst_ (gj_iload 4 (pc := 112) dX8_falsifies_112 rfl) ?_
        refine zst_ (gj_ishl (pc := 114) dX8_falsifies_114) ?_
        refine zst_ (gj_ior (pc := 115) dX8_falsifies_115) ?_
        refine gb_let (fun y9 => ?_)
        refine zst_ (gj_istore_n (pc := 116) (ls' := [(3, zi y9), (0, zr x0), (1, zr x1), (2, zi x2), (4, zi x4)]) dX8_falsifies_116 (by decide) rfl) ?_
        refine zst_ (gj_sub [1, 2, 3, 0, 4] rfl) ?_
        exact fun h => w_X8_falsifies_117 x0 x1 x2 y9 x4 σ6 h hk
theorem w_X8_falsifies_73 {g : zG} {lv : Nat} {out : zO} (x0 x1 x2 x3 x4 : Int) (σ : zM) {r : zO} (h : f_X8_falsifies_73 x0 x1 x2 x3 x4 σ = some r) (hk : (fun o : zO => o = out) r) : Gj g MX8_falsifies (lv + 44) 73 [(0, zr x0), (1, zr x1), (2, zi x2), (3, zi x3), (4, zi x4)] [] σ out :=
  gj_loop (P := (fun s : Int × Int × zM => Gj g MX8_falsifies (lv + 44) 73 [(0, zr x0), (1, zr x1), (2, zi x2), (3, zi s.1), (4, zi s.2.1)] [] s.2.2 out)) (fun s x hb hx => w_X8_falsifies_73_b x0 x1 x2 s.1 s.2.1 s.2.2 hb hx) h hk
noncomputable def f_X8_falsifies_59 (x0 x1 x2 : Int) (σ : zM) : Option zO :=
  if x2 ≠ 30000 then
    f_X8_falsifies_73 x0 x1 x2 0 0 σ
  else
    zgd (z01 0) <|
    some (0, zi 0, σ)
theorem w_X8_falsifies_59 {g : zG} {lv : Nat} {out : zO} (x0 x1 x2 : Int) (σ : zM) {r : zO} (h : f_X8_falsifies_59 x0 x1 x2 σ = some r) (hk : (fun o : zO => o = out) r) : Gj g MX8_falsifies (lv + 44) 59 [(0, zr x0), (1, zr x1), (2, zi x2)] [] σ out := by
  revert h
  unfold f_X8_falsifies_59
  refine zst_ (gj_iload_n 2 (pc := 59) dX8_falsifies_59 rfl) ?_
  refine zst_ (gj_sipush (pc := 60) dX8_falsifies_60 ⟨rfl, by decide⟩) ?_
  refine gb_if (gj_icmp_ne 68 (pc := 63) dX8_falsifies_63 (by decide)) ?_ ?_
  · refine zst_ (gj_iconst (pc := 68) dX8_falsifies_68 (by decide)) ?_
    refine zst_ (gj_istore_n (pc := 69) (ls' := [(3, zi 0), (0, zr x0), (1, zr x1), (2, zi x2)]) dX8_falsifies_69 (by decide) rfl) ?_
    refine zst_ (gj_iconst (pc := 70) dX8_falsifies_70 (by decide)) ?_
    refine zst_ (gj_istore (pc := 71) (ls' := [(4, zi 0), (3, zi 0), (0, zr x0), (1, zr x1), (2, zi x2)]) dX8_falsifies_71 (by decide) rfl) ?_
    refine zst_ (gj_sub [2, 3, 4, 1, 0] rfl) ?_
    exact fun h => w_X8_falsifies_73 x0 x1 x2 0 0 σ h hk
  · refine zst_ (gj_iconst (pc := 66) dX8_falsifies_66 (by decide)) ?_
    refine gb_gd (fun hb => ?_)
    intro h
    cases h
    have hk : (0, zi 0, σ) = out := hk
    subst hk
    exact gj_ret (pc := 67) (t := .boolean) dX8_falsifies_67 rfl ⟨rfl, rfl⟩ (fun _ => z01E hb)
noncomputable def f_X8_falsifies_53 (x0 x1 x2 x3 : Int) (σ : zM) : Option ((Int × Int × zM) ⊕ zO) :=
  zlet (zadd x3 1) fun y1 =>
  some (.inl (x2, y1, σ))
theorem w_X8_falsifies_53 {g : zG} {lv : Nat} {out : zO} (x0 x1 x2 x3 : Int) (σ : zM) {r : ((Int × Int × zM) ⊕ zO)} (h : f_X8_falsifies_53 x0 x1 x2 x3 σ = some r) (hk : (zKL (fun s : Int × Int × zM => Gj g MX8_falsifies (lv + 44) 18 [(0, zr x0), (1, zr x1), (2, zi s.1), (3, zi s.2.1)] [] s.2.2 out) (fun o : zO => o = out)) r) : Gj g MX8_falsifies (lv + 44) 53 [(0, zr x0), (1, zr x1), (2, zi x2), (3, zi x3)] [] σ out := by
  revert h
  unfold f_X8_falsifies_53
  refine gb_iinc (pc := 53) 3 (fun y1 => [(3, zi y1), (0, zr x0), (1, zr x1), (2, zi x2)]) dX8_falsifies_53 rfl (by decide) (fun _ => rfl) (fun y1 => ?_)
  refine zst_ (gj_goto 18 (pc := 56) dX8_falsifies_56 (by decide)) ?_
  refine zst_ (gj_sub [1, 2, 3, 0] rfl) ?_
  intro h
  cases h
  exact hk
noncomputable def f_X8_falsifies_18_b (x0 x1 x2 x3 : Int) (σ : zM) : Option ((Int × Int × zM) ⊕ zO) :=
  zgd (zis σ 9 x0) <|
  zci (f_X8_kinds x0 σ) fun v1 σ2 =>
  if v1 ≤ x3 then
    (f_X8_falsifies_59 x0 x1 x2 σ2).map (fun r => (.inr r))
  else
    (zgf σ2 802 x0).bind fun v3 =>
    (zga σ2 101 v3 0).bind fun v4 =>
    zci ((if zis σ2 17 x1 = true then f_X16_is x1 v4 x3 σ2 else if zis σ2 18 x1 = true then f_G_X17_is 40 0 [x1, v4, x3] σ2 else if zis σ2 20 x1 = true then f_G_X17_is 40 1 [x1, v4, x3] σ2 else if zis σ2 19 x1 = true then f_X18_is x1 v4 x3 σ2 else none)) fun v5 σ6 =>
    if v5 ≠ 0 then
      f_X8_falsifies_53 x0 x1 x2 x3 σ6
    else
      (zgf σ6 815 x0).bind fun v7 =>
      (zga σ6 101 v7 x3).bind fun v8 =>
      zlet (if v8 < x2 then v8 else x2) fun y9 =>
      f_X8_falsifies_53 x0 x1 y9 x3 σ6
noncomputable def f_X8_falsifies_18 (x0 x1 x2 x3 : Int) (σ : zM) : Option zO :=
  zloop (fun s : Int × Int × zM => f_X8_falsifies_18_b x0 x1 s.1 s.2.1 s.2.2) (x2, x3, σ)
theorem w_X8_falsifies_18_b {g : zG} {lv : Nat} {out : zO} (x0 x1 x2 x3 : Int) (σ : zM) {r : ((Int × Int × zM) ⊕ zO)} (h : f_X8_falsifies_18_b x0 x1 x2 x3 σ = some r) (hk : (zKL (fun s : Int × Int × zM => Gj g MX8_falsifies (lv + 44) 18 [(0, zr x0), (1, zr x1), (2, zi s.1), (3, zi s.2.1)] [] s.2.2 out) (fun o : zO => o = out)) r) : Gj g MX8_falsifies (lv + 44) 18 [(0, zr x0), (1, zr x1), (2, zi x2), (3, zi x3)] [] σ out := by
  revert h
  unfold f_X8_falsifies_18_b
  refine zst_ (gj_iload_n 3 (pc := 18) dX8_falsifies_18 rfl) ?_
  refine zst_ (gj_aload_n 0 (pc := 19) dX8_falsifies_19 rfl) ?_
  refine gb_gd (fun hb => ?_)
  refine gb_callI (pc := 20) (as := [zr x0]) (rest := [zi x3]) (zCl.of (zLk_V (M := MX8_falsifies) (ci := 8) (r := (RX8, TX8, 23)) plX8_kinds.1 rfl rfl (zisE hb).1 (zisE hb).2 dX8_falsifies_20 q1699 q1701 qs30 q1702) plX8_kinds (Nat.le_of_ble_eq_true rfl) (fun h => c_X8_kinds h)) (fun v1 σ2 => ?_)
  refine gb_if (gj_icmp_ge 59 (pc := 23) dX8_falsifies_23 (by decide)) ?_ ?_
  · refine zst_ (gj_sub [0, 1, 2] rfl) ?_
    intro h
    obtain ⟨r0, h0, rfl⟩ := zmE h
    exact w_X8_falsifies_59 x0 x1 x2 σ2 h0 hk
  · refine zst_ (gj_aload_n 1 (pc := 26) dX8_falsifies_26 rfl) ?_
    refine zst_ (gj_aload_n 0 (pc := 27) dX8_falsifies_27 rfl) ?_
    refine gb_get (pc := 28) fl802 dX8_falsifies_28 q767 (Or.inl rfl) (fun v3 => ?_)
    refine zst_ (gj_iconst (pc := 31) dX8_falsifies_31 (by decide)) ?_
    refine gb_iald (pc := 32) dX8_falsifies_32 (fun v4 => ?_)
    refine zst_ (gj_iload_n 3 (pc := 33) dX8_falsifies_33 rfl) ?_
    refine gb_callI (pc := 34) (as := [zr x1, zi v4, zi x3]) (rest := []) (zCl.ite (fun hb => zCl.of (zLk_F (M := MX8_falsifies) (ci := 16) (r := (RX16, TX16, 1)) (x := ⟨"LassoFinder$Formula", "is", "(II)Z"⟩) plX16_is.1 ⟨rfl, rfl⟩ (by decide) rfl rfl (zisE hb).1 (zisE hb).2 dX8_falsifies_34 q1783 q1734 q1732 q1736 q1714 q1713 q1735 q1733 q1731) plX16_is (Nat.le_of_ble_eq_true rfl) (fun h => c_X16_is h)) (zCl.ite (fun hb => zCl.of (zLk_F (M := MX8_falsifies) (ci := 17) (r := (RX17, TX17, 1)) (x := ⟨"LassoFinder$Formula", "is", "(II)Z"⟩) plX17_is.1 ⟨rfl, rfl⟩ (by decide) rfl rfl (zisE hb).1 (zisE hb).2 dX8_falsifies_34 q1783 q1726 q1724 q1728 q1714 q1713 q1727 q1725 q1723) plX17_is (Nat.le_of_ble_eq_true rfl) (fun h => c_G_X17_is_0 h)) (zCl.ite (fun hb => zCl.of (zLk_F (M := MX8_falsifies) (ci := 19) (r := (RX19, TX19, 3)) (x := ⟨"LassoFinder$Formula", "is", "(II)Z"⟩) plX19_is.1 ⟨rfl, rfl⟩ (by decide) rfl rfl (zisE hb).1 (zisE hb).2 dX8_falsifies_34 q1783 q1718 q1716 q1720 q1714 q1713 q1719 q1717 q1715) plX19_is (Nat.le_of_ble_eq_true rfl) (fun h => c_G_X17_is_1 h)) (zCl.ite (fun hb => zCl.of (zLk_F (M := MX8_falsifies) (ci := 18) (r := (RX18, TX18, 4)) (x := ⟨"LassoFinder$Formula", "is", "(II)Z"⟩) plX18_is.1 ⟨rfl, rfl⟩ (by decide) rfl rfl (zisE hb).1 (zisE hb).2 dX8_falsifies_34 q1783 q1740 q1738 q1742 q1714 q1713 q1741 q1739 q1737) plX18_is (Nat.le_of_ble_eq_true rfl) (fun h => c_X18_is h)) zCl.no)))) (fun v5 σ6 => ?_)
    refine gb_if (gj_if_ne 53 (pc := 39) dX8_falsifies_39 (by decide)) ?_ ?_
    · exact fun h => w_X8_falsifies_53 x0 x1 x2 x3 σ6 h hk
    · refine zst_ (gj_iload_n 2 (pc := 42) dX8_falsifies_42 rfl) ?_
      refine zst_ (gj_aload_n 0 (pc := 43) dX8_falsifies_43 rfl) ?_
      refine gb_get (pc := 44) fl815 dX8_falsifies_44 q780 (Or.inl rfl) (fun v7 => ?_)
      refine zst_ (gj_iload_n 3 (pc := 47) dX8_falsifies_47 rfl) ?_
      refine gb_iald (pc := 48) dX8_falsifies_48 (fun v8 => ?_)
      refine zst_ (gj_mmin (pc := 49) dX8_falsifies_49 q1769 q477 q119 q478 (by omega) (Nat.le_of_ble_eq_true rfl)) ?_
      refine gb_let (fun y9 => ?_)
      refine zst_ (gj_istore_n (pc := 52) (ls' := [(2, zi y9), (0, zr x0), (1, zr x1), (3, zi x3)]) dX8_falsifies_52 (by decide) rfl) ?_
      refine zst_ (gj_sub [1, 2, 0, 3] rfl) ?_
      exact fun h => w_X8_falsifies_53 x0 x1 y9 x3 σ6 h hk
theorem w_X8_falsifies_18 {g : zG} {lv : Nat} {out : zO} (x0 x1 x2 x3 : Int) (σ : zM) {r : zO} (h : f_X8_falsifies_18 x0 x1 x2 x3 σ = some r) (hk : (fun o : zO => o = out) r) : Gj g MX8_falsifies (lv + 44) 18 [(0, zr x0), (1, zr x1), (2, zi x2), (3, zi x3)] [] σ out :=
  gj_loop (P := (fun s : Int × Int × zM => Gj g MX8_falsifies (lv + 44) 18 [(0, zr x0), (1, zr x1), (2, zi s.1), (3, zi s.2.1)] [] s.2.2 out)) (fun s x hb hx => w_X8_falsifies_18_b x0 x1 s.1 s.2.1 s.2.2 hb hx) h hk
noncomputable def f_X8_falsifies (x0 x1 : Int) (σ : zM) : Option zO :=
  zgd (zis σ 9 x0) <|
  zcv (f_X8_prepare x0 σ) fun σ1 =>
  zgd (zis σ1 9 x0) <|
  zcv (f_X8_mark x0 σ1) fun σ2 =>
  zgd (zis σ2 9 x0) <|
  zcv (f_X8_spread x0 σ2) fun σ3 =>
  f_X8_falsifies_18 x0 x1 30000 0 σ3
theorem c_X8_falsifies {g : zG} {lv : Nat} {x0 x1 : Int} {σ : zM} {out : zO} (h : f_X8_falsifies x0 x1 σ = some out) : Cj g (lv + 44) MX8_falsifies [zr x0, zr x1] σ out := by
  refine cj_go (ls := [(0, zr x0), (1, zr x1)]) (by decide) (Nat.le_of_ble_eq_true rfl) rfl (zgen h (fun r hk => ?_))
  unfold f_X8_falsifies
  refine zst_ (gj_aload_n 0 (pc := 0) dX8_falsifies_0 rfl) ?_
  refine gb_gd (fun hb => ?_)
  refine gb_callV (pc := 1) (as := [zr x0]) (rest := []) (zCl.of (zLk_V (M := MX8_falsifies) (ci := 8) (r := (RX8, TX8, 23)) plX8_prepare.1 rfl rfl (zisE hb).1 (zisE hb).2 dX8_falsifies_1 q1684 q1685 q1686 q1687) plX8_prepare (Nat.le_of_ble_eq_true rfl) (fun h => c_X8_prepare h)) (fun σ1 => ?_)
  refine zst_ (gj_aload_n 0 (pc := 4) dX8_falsifies_4 rfl) ?_
  refine gb_gd (fun hb => ?_)
  refine gb_callV (pc := 5) (as := [zr x0]) (rest := []) (zCl.of (zLk_V (M := MX8_falsifies) (ci := 8) (r := (RX8, TX8, 23)) plX8_mark.1 rfl rfl (zisE hb).1 (zisE hb).2 dX8_falsifies_5 q1752 q1754 qs31 q1755) plX8_mark (Nat.le_of_ble_eq_true rfl) (fun h => c_X8_mark h)) (fun σ2 => ?_)
  refine zst_ (gj_aload_n 0 (pc := 8) dX8_falsifies_8 rfl) ?_
  refine gb_gd (fun hb => ?_)
  refine gb_callV (pc := 9) (as := [zr x0]) (rest := []) (zCl.of (zLk_V (M := MX8_falsifies) (ci := 8) (r := (RX8, TX8, 23)) plX8_spread.1 rfl rfl (zisE hb).1 (zisE hb).2 dX8_falsifies_9 q1778 q1780 qs37 q1781) plX8_spread (Nat.le_of_ble_eq_true rfl) (fun h => c_X8_spread h)) (fun σ3 => ?_)
  refine zst_ (gj_sipush (pc := 12) dX8_falsifies_12 ⟨rfl, by decide⟩) ?_
  refine zst_ (gj_istore_n (pc := 15) (ls' := [(2, zi 30000), (0, zr x0), (1, zr x1)]) dX8_falsifies_15 (by decide) rfl) ?_
  refine zst_ (gj_iconst (pc := 16) dX8_falsifies_16 (by decide)) ?_
  refine zst_ (gj_istore_n (pc := 17) (ls' := [(3, zi 0), (2, zi 30000), (0, zr x0), (1, zr x1)]) dX8_falsifies_17 (by decide) rfl) ?_
  refine zst_ (gj_sub [2, 3, 1, 0] rfl) ?_
  exact fun h => w_X8_falsifies_18 x0 x1 30000 0 σ3 h hk
theorem q845 : (Jvm.Cond.fieldLink "LassoFinder" (44 : Nat) "LassoFinder" "search" "LLassoFinder$Search;") ∈ lw_all := lw_g (lw_at lw_m4 25 rfl) rfl
theorem q1679 : (Jvm.Cond.code ({ cls := "LassoFinder", name := "verify", desc := "()Z" } : Jvm.MethodName) prog_1_method_9_code (1 : Nat) (Option.some Jvm.ClassFile.FieldType.boolean)) ∈ lw_all := lw_g (lw_at lw_m7 139 rfl) rfl
theorem q1680 : (Jvm.Cond.methodLink "LassoFinder" (133 : Nat) ({ cls := "LassoFinder$Search", name := "falsifies", desc := "(LLassoFinder$Formula;)Z" } : Jvm.MethodName)) ∈ lw_all := lw_g (lw_at lw_m7 140 rfl) rfl
theorem q1681 : (Jvm.Cond.instanceMethod ({ cls := "LassoFinder$Search", name := "falsifies", desc := "(LLassoFinder$Formula;)Z" } : Jvm.MethodName)) ∈ lw_all := lw_g (lw_at lw_m7 141 rfl) rfl
theorem q1682 : (Jvm.Cond.selects "LassoFinder$Search" ({ cls := "LassoFinder$Search", name := "falsifies", desc := "(LLassoFinder$Formula;)Z" } : Jvm.MethodName) ({ cls := "LassoFinder$Search", name := "falsifies", desc := "(LLassoFinder$Formula;)Z" } : Jvm.MethodName)) ∈ lw_all := lw_g (lw_at lw_m7 142 rfl) rfl
theorem fl104 : zfl 104 2 "LassoFinder" "search" "LLassoFinder$Search;" true := ⟨rfl, rfl, rfl⟩
theorem fr104 {g : zG} {v : Int} : zok g (2, v) → zokt g (zft 104) v := fun h => h
abbrev cX1_verify : ByteArray := prog_1_method_9_code
def yX1_verify : MethodName := ⟨RX1, "verify", "()Z"⟩
theorem dX1_verify_0 : decode cX1_verify 0 = .ok (.aload_n 0, 1) := by decide +kernel
theorem dX1_verify_1 : decode cX1_verify 1 = .ok (.getfield 86, 3) := by decide +kernel
theorem dX1_verify_4 : decode cX1_verify 4 = .ok (.ifnull 7, 3) := by decide +kernel
theorem dX1_verify_7 : decode cX1_verify 7 = .ok (.iconst 1, 1) := by decide +kernel
theorem dX1_verify_8 : decode cX1_verify 8 = .ok (.goto 4, 3) := by decide +kernel
theorem dX1_verify_11 : decode cX1_verify 11 = .ok (.iconst 0, 1) := by decide +kernel
theorem dX1_verify_12 : decode cX1_verify 12 = .ok (.invokestatic 122, 3) := by decide +kernel
theorem dX1_verify_15 : decode cX1_verify 15 = .ok (.aload_n 0, 1) := by decide +kernel
theorem dX1_verify_16 : decode cX1_verify 16 = .ok (.aload_n 0, 1) := by decide +kernel
theorem dX1_verify_17 : decode cX1_verify 17 = .ok (.getfield 44, 3) := by decide +kernel
theorem dX1_verify_20 : decode cX1_verify 20 = .ok (.aload_n 0, 1) := by decide +kernel
theorem dX1_verify_21 : decode cX1_verify 21 = .ok (.getfield 86, 3) := by decide +kernel
theorem dX1_verify_24 : decode cX1_verify 24 = .ok (.invokevirtual 133, 3) := by decide +kernel
theorem dX1_verify_27 : decode cX1_verify 27 = .ok (.putfield 82, 3) := by decide +kernel
theorem dX1_verify_30 : decode cX1_verify 30 = .ok (.aload_n 0, 1) := by decide +kernel
theorem dX1_verify_31 : decode cX1_verify 31 = .ok (.getfield 82, 3) := by decide +kernel
theorem dX1_verify_34 : decode cX1_verify 34 = .ok (.ifCond .ne 7, 3) := by decide +kernel
theorem dX1_verify_37 : decode cX1_verify 37 = .ok (.iconst 1, 1) := by decide +kernel
theorem dX1_verify_38 : decode cX1_verify 38 = .ok (.goto 4, 3) := by decide +kernel
theorem dX1_verify_41 : decode cX1_verify 41 = .ok (.iconst 0, 1) := by decide +kernel
theorem dX1_verify_42 : decode cX1_verify 42 = .ok (.ireturn, 1) := by decide +kernel
abbrev MX1_verify : zT := (yX1_verify, cX1_verify, 1, (Option.some Jvm.ClassFile.FieldType.boolean), [])
theorem plX1_verify : zplain MX1_verify 0 ∧ (zcodeW MX1_verify ∈ lw_all ∧ Cond.initialized MX1_verify.1.cls ∈ lw_all) := ⟨⟨by decide +kernel, by decide +kernel⟩, q1679, q101⟩
noncomputable def f_X1_verify_42 (t0 : Int) (σ : zM) : Option zO :=
  zgd (z01 t0) <|
  some (0, zi t0, σ)
theorem w_X1_verify_42 {g : zG} {lv : Nat} {out : zO} (t0 : Int) (σ : zM) {r : zO} (h : f_X1_verify_42 t0 σ = some r) (hk : (fun o : zO => o = out) r) : Gj g MX1_verify (lv + 45) 42 [] [zi t0] σ out := by
  revert h
  unfold f_X1_verify_42
  refine gb_gd (fun hb => ?_)
  intro h
  cases h
  have hk : (0, zi t0, σ) = out := hk
  subst hk
  exact gj_ret (pc := 42) (t := .boolean) dX1_verify_42 rfl ⟨rfl, rfl⟩ (fun _ => z01E hb)
noncomputable def f_X1_verify_12 (x0 t0 : Int) (σ : zM) : Option zO :=
  zcvT (f_X1_need t0 σ) (fun n a σ1 => some (n + 1, zr a, σ1)) fun σ1 =>
  (zgf σ1 104 x0).bind fun v2 =>
  (zgf σ1 105 x0).bind fun v3 =>
  zgd (zis σ1 9 v2) <|
  zci (f_X8_falsifies v2 v3 σ1) fun v4 σ5 =>
  zgd (z01 v4) <|
  (zpf σ5 107 x0 v4).bind fun σ6 =>
  (zgf σ6 107 x0).bind fun v7 =>
  if v7 ≠ 0 then
    f_X1_verify_42 0 σ6
  else
    f_X1_verify_42 1 σ6
theorem w_X1_verify_12 {g : zG} {lv : Nat} {out : zO} (x0 t0 : Int) (σ : zM) {r : zO} (h : f_X1_verify_12 x0 t0 σ = some r) (hk : (fun o : zO => o = out) r) : Gj g MX1_verify (lv + 45) 12 [(0, zr x0)] [zi t0] σ out := by
  revert h
  unfold f_X1_verify_12
  refine gb_callVT (pc := 12) (as := [zi t0]) (rest := []) (zCl.of (zLk_S (M := MX1_verify) plX1_need.1 rfl dX1_verify_12 q1536 q1537 q101 q1538) plX1_need (Nat.le_of_ble_eq_true rfl) (fun h => c_X1_need h)) (fun n a s0 h => by cases h; exact Or.inl ⟨rfl, hk⟩) (fun σ1 => ?_)
  refine zst_ (gj_aload_n 0 (pc := 15) dX1_verify_15 rfl) ?_
  refine zst_ (gj_aload_n 0 (pc := 16) dX1_verify_16 rfl) ?_
  refine gb_get (pc := 17) fl104 dX1_verify_17 q845 (Or.inl rfl) (fun v2 => ?_)
  refine zst_ (gj_aload_n 0 (pc := 20) dX1_verify_20 rfl) ?_
  refine gb_get (pc := 21) fl105 dX1_verify_21 q846 (Or.inl rfl) (fun v3 => ?_)
  refine gb_gd (fun hb => ?_)
  refine gb_callI (pc := 24) (as := [zr v2, zr v3]) (rest := [zr x0]) (zCl.of (zLk_V (M := MX1_verify) (ci := 8) (r := (RX8, TX8, 23)) plX8_falsifies.1 rfl rfl (zisE hb).1 (zisE hb).2 dX1_verify_24 q1680 q1681 q1682 q1683) plX8_falsifies (Nat.le_of_ble_eq_true rfl) (fun h => c_X8_falsifies h)) (fun v4 σ5 => ?_)
  refine gb_gd (fun hb => ?_)
  refine gb_put (pc := 27) fl107 (fr107 hb) dX1_verify_27 q848 (Or.inl rfl) (fun σ6 => ?_)
  refine zst_ (gj_aload_n 0 (pc := 30) dX1_verify_30 rfl) ?_
  refine gb_get (pc := 31) fl107 dX1_verify_31 q848 (Or.inl rfl) (fun v7 => ?_)
  refine gb_if (gj_if_ne 41 (pc := 34) dX1_verify_34 (by decide)) ?_ ?_
  · refine zst_ (gj_iconst (pc := 41) dX1_verify_41 (by decide)) ?_
    refine zst_ (gj_sub [] rfl) ?_
    exact fun h => w_X1_verify_42 0 σ6 h hk
  · refine zst_ (gj_iconst (pc := 37) dX1_verify_37 (by decide)) ?_
    refine zst_ (gj_goto 42 (pc := 38) dX1_verify_38 (by decide)) ?_
    refine zst_ (gj_sub [] rfl) ?_
    exact fun h => w_X1_verify_42 1 σ6 h hk
noncomputable def f_X1_verify (x0 : Int) (σ : zM) : Option zO :=
  (zgf σ 105 x0).bind fun v1 =>
  if v1 = (-1) then
    f_X1_verify_12 x0 0 σ
  else
    f_X1_verify_12 x0 1 σ
theorem c_X1_verify {g : zG} {lv : Nat} {x0 : Int} {σ : zM} {out : zO} (h : f_X1_verify x0 σ = some out) : Cj g (lv + 45) MX1_verify [zr x0] σ out := by
  refine cj_go (ls := [(0, zr x0)]) (by decide) (Nat.le_of_ble_eq_true rfl) rfl (zgen h (fun r hk => ?_))
  unfold f_X1_verify
  refine zst_ (gj_aload_n 0 (pc := 0) dX1_verify_0 rfl) ?_
  refine gb_get (pc := 1) fl105 dX1_verify_1 q846 (Or.inl rfl) (fun v1 => ?_)
  refine gb_if (gj_ifnull 11 (pc := 4) dX1_verify_4 (by decide)) ?_ ?_
  · refine zst_ (gj_iconst (pc := 11) dX1_verify_11 (by decide)) ?_
    exact fun h => w_X1_verify_12 x0 0 σ h hk
  · refine zst_ (gj_iconst (pc := 7) dX1_verify_7 (by decide)) ?_
    refine zst_ (gj_goto 12 (pc := 8) dX1_verify_8 (by decide)) ?_
    exact fun h => w_X1_verify_12 x0 1 σ h hk
theorem q1675 : (Jvm.Cond.codeWith ({ cls := "LassoFinderLaw", name := "verify", desc := "(LLassoFinder;[J)I" } : Jvm.MethodName) method_5_code (3 : Nat) (Option.some Jvm.ClassFile.FieldType.int) [((0 : Nat), (15 : Nat), (18 : Nat), (20 : Nat))]) ∈ lw_all := lw_g (lw_at lw_m7 135 rfl) rfl
theorem q1676 : (Jvm.Cond.methodLink "LassoFinderLaw" (22 : Nat) ({ cls := "LassoFinder", name := "verify", desc := "()Z" } : Jvm.MethodName)) ∈ lw_all := lw_g (lw_at lw_m7 136 rfl) rfl
theorem q1677 : (Jvm.Cond.instanceMethod ({ cls := "LassoFinder", name := "verify", desc := "()Z" } : Jvm.MethodName)) ∈ lw_all := lw_g (lw_at lw_m7 137 rfl) rfl
theorem q1678 : (Jvm.Cond.selects "LassoFinder" ({ cls := "LassoFinder", name := "verify", desc := "()Z" } : Jvm.MethodName) ({ cls := "LassoFinder", name := "verify", desc := "()Z" } : Jvm.MethodName)) ∈ lw_all := lw_g (lw_at lw_m7 138 rfl) rfl
abbrev cX0_verify : ByteArray := method_5_code
def yX0_verify : MethodName := ⟨RX0, "verify", "(LLassoFinder;[J)I"⟩
theorem dX0_verify_0 : decode cX0_verify 0 = .ok (.aload_n 1, 1) := by decide +kernel
theorem dX0_verify_1 : decode cX0_verify 1 = .ok (.iconst 0, 1) := by decide +kernel
theorem dX0_verify_2 : decode cX0_verify 2 = .ok (.aload_n 0, 1) := by decide +kernel
theorem dX0_verify_3 : decode cX0_verify 3 = .ok (.invokevirtual 22, 3) := by decide +kernel
theorem dX0_verify_6 : decode cX0_verify 6 = .ok (.ifCond .eq 7, 3) := by decide +kernel
theorem dX0_verify_9 : decode cX0_verify 9 = .ok (.lconst 1, 1) := by decide +kernel
theorem dX0_verify_10 : decode cX0_verify 10 = .ok (.goto 4, 3) := by decide +kernel
theorem dX0_verify_13 : decode cX0_verify 13 = .ok (.lconst 0, 1) := by decide +kernel
theorem dX0_verify_14 : decode cX0_verify 14 = .ok (.lastore, 1) := by decide +kernel
theorem dX0_verify_15 : decode cX0_verify 15 = .ok (.goto 6, 3) := by decide +kernel
theorem dX0_verify_18 : decode cX0_verify 18 = .ok (.astore_n 2, 1) := by decide +kernel
theorem dX0_verify_19 : decode cX0_verify 19 = .ok (.iconst 1, 1) := by decide +kernel
theorem dX0_verify_20 : decode cX0_verify 20 = .ok (.ireturn, 1) := by decide +kernel
theorem dX0_verify_21 : decode cX0_verify 21 = .ok (.iconst 0, 1) := by decide +kernel
theorem dX0_verify_22 : decode cX0_verify 22 = .ok (.ireturn, 1) := by decide +kernel
abbrev MX0_verify : zT := (yX0_verify, cX0_verify, 3, (Option.some Jvm.ClassFile.FieldType.int), [(0, 15, 18, 20)])
theorem plX0_verify : zplain MX0_verify 2 ∧ (zcodeW MX0_verify ∈ lw_all ∧ Cond.initialized MX0_verify.1.cls ∈ lw_all) := ⟨⟨by decide +kernel, by decide +kernel⟩, q1675, q100⟩
noncomputable def f_X0_verify_18 (t0 : Int) (σ : zM) : Option zO :=
  some (0, zi 1, σ)
theorem w_X0_verify_18 {g : zG} {lv : Nat} {out : zO} (t0 : Int) (σ : zM) {r : zO} (h : f_X0_verify_18 t0 σ = some r) (hk : (fun o : zO => o = out) r) : Gj g MX0_verify (lv + 46) 18 [] [zr t0] σ out := by
  revert h
  unfold f_X0_verify_18
  refine zst_ (gj_astore_n (pc := 18) (ls' := [(2, zr t0)]) dX0_verify_18 (by decide) rfl) ?_
  refine zst_ (gj_iconst (pc := 19) dX0_verify_19 (by decide)) ?_
  intro h
  cases h
  have hk : (0, zi 1, σ) = out := hk
  subst hk
  exact gj_ret (pc := 20) (t := .int) dX0_verify_20 rfl ⟨rfl, rfl⟩ (fun h => h)
noncomputable def f_X0_verify_14 (t0 t1 t2 : Int) (σ : zM) : Option zO :=
  (zpa σ 102 t2 t1 t0).bind fun σ1 =>
  some (0, zi 0, σ1)
theorem w_X0_verify_14 {g : zG} {lv : Nat} {out : zO} (t0 t1 t2 : Int) (σ : zM) {r : zO} (h : f_X0_verify_14 t0 t1 t2 σ = some r) (hk : (fun o : zO => o = out) r) : Gj g MX0_verify (lv + 46) 14 [] [zj t0, zi t1, zr t2] σ out := by
  revert h
  unfold f_X0_verify_14
  refine gb_last (pc := 14) dX0_verify_14 (fun σ1 => ?_)
  refine zst_ (gj_goto 21 (pc := 15) dX0_verify_15 (by decide)) ?_
  refine zst_ (gj_iconst (pc := 21) dX0_verify_21 (by decide)) ?_
  intro h
  cases h
  have hk : (0, zi 0, σ1) = out := hk
  subst hk
  exact gj_ret (pc := 22) (t := .int) dX0_verify_22 rfl ⟨rfl, rfl⟩ (fun h => h)
noncomputable def f_X0_verify (x0 x1 : Int) (σ : zM) : Option zO :=
  zgd (zis σ 2 x0) <|
  zciT (f_X1_verify x0 σ) (fun n a σ2 => if n = 1 then f_X0_verify_18 a σ2 else none) fun v1 σ2 =>
  if v1 = 0 then
    f_X0_verify_14 0 0 x1 σ2
  else
    f_X0_verify_14 1 0 x1 σ2
theorem c_X0_verify {g : zG} {lv : Nat} {x0 x1 : Int} {σ : zM} {out : zO} (h : f_X0_verify x0 x1 σ = some out) : Cj g (lv + 46) MX0_verify [zr x0, zr x1] σ out := by
  refine cj_go (ls := [(0, zr x0), (1, zr x1)]) (by decide) (Nat.le_of_ble_eq_true rfl) rfl (zgen h (fun r hk => ?_))
  unfold f_X0_verify
  refine zst_ (gj_aload_n 1 (pc := 0) dX0_verify_0 rfl) ?_
  refine zst_ (gj_iconst (pc := 1) dX0_verify_1 (by decide)) ?_
  refine zst_ (gj_aload_n 0 (pc := 2) dX0_verify_2 rfl) ?_
  refine gb_gd (fun hb => ?_)
  refine gb_callIT (pc := 3) (as := [zr x0]) (rest := [zi 0, zr x1]) (zCl.of (zLk_V (M := MX0_verify) (ci := 1) (r := (RX1, TX1, 12)) plX1_verify.1 rfl rfl (zisE hb).1 (zisE hb).2 dX0_verify_3 q1676 q1677 q1678 q1679) plX1_verify (Nat.le_of_ble_eq_true rfl) (fun h => c_X1_verify h)) (fun n a s0 => gb_hn (fun h => Or.inr ⟨[], (0, 15, 18, 20), [], rfl, (fun z hz => by cases hz), ⟨by decide, by decide⟩, by decide, q1528, gj_sub [] rfl (w_X0_verify_18 a s0 h hk)⟩) ((fun h => by cases h))) (fun v1 σ2 => ?_)
  refine gb_if (gj_if_eq 13 (pc := 6) dX0_verify_6 (by decide)) ?_ ?_
  · refine zst_ (gj_lconst0 (pc := 13) dX0_verify_13) ?_
    refine zst_ (gj_sub [] rfl) ?_
    exact fun h => w_X0_verify_14 0 0 x1 σ2 h hk
  · refine zst_ (gj_lconst1 (pc := 9) dX0_verify_9) ?_
    refine zst_ (gj_goto 14 (pc := 10) dX0_verify_10 (by decide)) ?_
    refine zst_ (gj_sub [] rfl) ?_
    exact fun h => w_X0_verify_14 1 0 x1 σ2 h hk
theorem q1816 : (Jvm.Cond.code ({ cls := "LassoFinder", name := "within", desc := "(II)V" } : Jvm.MethodName) prog_1_method_6_code (2 : Nat) (Option.none : Option Jvm.ClassFile.FieldType)) ∈ lw_all := lw_g (lw_at lw_m8 36 rfl) rfl
theorem q1817 : (Jvm.Cond.classLink "LassoFinder" (118 : Nat) "java/lang/IndexOutOfBoundsException") ∈ lw_all := lw_g (lw_at lw_m8 37 rfl) rfl
theorem q1826 : (Jvm.Cond.methodLink "LassoFinder" (120 : Nat) ({ cls := "java/lang/IndexOutOfBoundsException", name := "<init>", desc := "()V" } : Jvm.MethodName)) ∈ lw_all := lw_g (lw_at lw_m8 46 rfl) rfl
abbrev cX1_within : ByteArray := prog_1_method_6_code
def yX1_within : MethodName := ⟨RX1, "within", "(II)V"⟩
theorem dX1_within_0 : decode cX1_within 0 = .ok (.iload_n 0, 1) := by decide +kernel
theorem dX1_within_1 : decode cX1_within 1 = .ok (.ifCond .lt 8, 3) := by decide +kernel
theorem dX1_within_4 : decode cX1_within 4 = .ok (.iload_n 0, 1) := by decide +kernel
theorem dX1_within_5 : decode cX1_within 5 = .ok (.iload_n 1, 1) := by decide +kernel
theorem dX1_within_6 : decode cX1_within 6 = .ok (.if_icmp .lt 11, 3) := by decide +kernel
theorem dX1_within_9 : decode cX1_within 9 = .ok (.new 118, 3) := by decide +kernel
theorem dX1_within_12 : decode cX1_within 12 = .ok (.dup, 1) := by decide +kernel
theorem dX1_within_13 : decode cX1_within 13 = .ok (.invokespecial 120, 3) := by decide +kernel
theorem dX1_within_16 : decode cX1_within 16 = .ok (.athrow, 1) := by decide +kernel
theorem dX1_within_17 : decode cX1_within 17 = .ok (.return_, 1) := by decide +kernel
abbrev MX1_within : zT := (yX1_within, cX1_within, 2, (Option.none : Option Jvm.ClassFile.FieldType), [])
theorem plX1_within : zplain MX1_within 2 ∧ (zcodeW MX1_within ∈ lw_all ∧ Cond.initialized MX1_within.1.cls ∈ lw_all) := ⟨⟨by decide +kernel, by decide +kernel⟩, q1816, q101⟩
noncomputable def f_X1_within_9 (σ : zM) : Option zO :=
  (znX σ 54).bind fun σ1 =>
  zgd (zis σ1 54 (↑(zN σ) : Int)) <|
  some (4, zr (↑(zN σ) : Int), σ1)
theorem w_X1_within_9 {g : zG} {lv : Nat} {out : zO} (σ : zM) {r : zO} (h : f_X1_within_9  σ = some r) (hk : (fun o : zO => o = out) r) : Gj g MX1_within (lv + 6) 9 [] [] σ out := by
  revert h
  unfold f_X1_within_9
  refine gb_exc (pc := 9) (k := 54) ⟨by decide, by decide⟩ (by omega) (Nat.le_of_ble_eq_true rfl) dX1_within_9 dX1_within_12 dX1_within_13 q1817 q1826 (fun σ1 => ?_)
  refine gb_gd (fun hb => ?_)
  intro h
  cases h
  have hk : (4, zr (↑(zN σ) : Int), σ1) = out := hk
  subst hk
  exact gj_athrow (pc := 16) (zisE hb).1 (zisE hb).2 (by decide) dX1_within_16 rfl
noncomputable def f_X1_within (x0 x1 : Int) (σ : zM) : Option zO :=
  if x0 < 0 then
    f_X1_within_9 σ
  else
    if x0 < x1 then
      some (0, ((3, 0) : zV), σ)
    else
      f_X1_within_9 σ
theorem c_X1_within {g : zG} {lv : Nat} {x0 x1 : Int} {σ : zM} {out : zO} (h : f_X1_within x0 x1 σ = some out) : Cj g (lv + 6) MX1_within [zi x0, zi x1] σ out := by
  refine cj_go (ls := [(0, zi x0), (1, zi x1)]) (by decide) (Nat.le_of_ble_eq_true rfl) rfl (zgen h (fun r hk => ?_))
  unfold f_X1_within
  refine zst_ (gj_iload_n 0 (pc := 0) dX1_within_0 rfl) ?_
  refine gb_if (gj_if_lt 9 (pc := 1) dX1_within_1 (by decide)) ?_ ?_
  · refine zst_ (gj_sub [] rfl) ?_
    exact fun h => w_X1_within_9 σ h hk
  · refine zst_ (gj_iload_n 0 (pc := 4) dX1_within_4 rfl) ?_
    refine zst_ (gj_iload_n 1 (pc := 5) dX1_within_5 rfl) ?_
    refine gb_if (gj_icmp_lt 17 (pc := 6) dX1_within_6 (by decide)) ?_ ?_
    · intro h
      cases h
      have hk : (0, ((3, 0) : zV), σ) = out := hk
      subst hk
      exact gj_vret (pc := 17) dX1_within_17 rfl
    · refine zst_ (gj_sub [] rfl) ?_
      exact fun h => w_X1_within_9 σ h hk
theorem q784 : (Jvm.Cond.fieldLinkNest "LassoFinder" (143 : Nat) "LassoFinder$Search" "stem" "[I" "LassoFinder") ∈ lw_tbl := lw_at lw_m3 204 rfl
theorem q786 : (Jvm.Cond.fieldLinkNest "LassoFinder" (146 : Nat) "LassoFinder$Search" "cycle" "[I" "LassoFinder") ∈ lw_tbl := lw_at lw_m3 206 rfl
theorem q788 : (Jvm.Cond.fieldLinkNest "LassoFinder" (137 : Nat) "LassoFinder$Search" "stems" "I" "LassoFinder") ∈ lw_tbl := lw_at lw_m3 208 rfl
theorem q1835 : (Jvm.Cond.code ({ cls := "LassoFinder", name := "chosen", desc := "(I)I" } : Jvm.MethodName) prog_1_method_12_code (2 : Nat) (Option.some Jvm.ClassFile.FieldType.int)) ∈ lw_all := lw_g (lw_at lw_m8 55 rfl) rfl
abbrev cX1_chosen : ByteArray := prog_1_method_12_code
def yX1_chosen : MethodName := ⟨RX1, "chosen", "(I)I"⟩
theorem dX1_chosen_0 : decode cX1_chosen 0 = .ok (.iload_n 1, 1) := by decide +kernel
theorem dX1_chosen_1 : decode cX1_chosen 1 = .ok (.aload_n 0, 1) := by decide +kernel
theorem dX1_chosen_2 : decode cX1_chosen 2 = .ok (.getfield 44, 3) := by decide +kernel
theorem dX1_chosen_5 : decode cX1_chosen 5 = .ok (.getfield 137, 3) := by decide +kernel
theorem dX1_chosen_8 : decode cX1_chosen 8 = .ok (.if_icmp .ge 15, 3) := by decide +kernel
theorem dX1_chosen_11 : decode cX1_chosen 11 = .ok (.aload_n 0, 1) := by decide +kernel
theorem dX1_chosen_12 : decode cX1_chosen 12 = .ok (.getfield 44, 3) := by decide +kernel
theorem dX1_chosen_15 : decode cX1_chosen 15 = .ok (.getfield 143, 3) := by decide +kernel
theorem dX1_chosen_18 : decode cX1_chosen 18 = .ok (.iload_n 1, 1) := by decide +kernel
theorem dX1_chosen_19 : decode cX1_chosen 19 = .ok (.iaload, 1) := by decide +kernel
theorem dX1_chosen_20 : decode cX1_chosen 20 = .ok (.goto 20, 3) := by decide +kernel
theorem dX1_chosen_23 : decode cX1_chosen 23 = .ok (.aload_n 0, 1) := by decide +kernel
theorem dX1_chosen_24 : decode cX1_chosen 24 = .ok (.getfield 44, 3) := by decide +kernel
theorem dX1_chosen_27 : decode cX1_chosen 27 = .ok (.getfield 146, 3) := by decide +kernel
theorem dX1_chosen_30 : decode cX1_chosen 30 = .ok (.iload_n 1, 1) := by decide +kernel
theorem dX1_chosen_31 : decode cX1_chosen 31 = .ok (.aload_n 0, 1) := by decide +kernel
theorem dX1_chosen_32 : decode cX1_chosen 32 = .ok (.getfield 44, 3) := by decide +kernel
theorem dX1_chosen_35 : decode cX1_chosen 35 = .ok (.getfield 137, 3) := by decide +kernel
theorem dX1_chosen_38 : decode cX1_chosen 38 = .ok (.isub, 1) := by decide +kernel
theorem dX1_chosen_39 : decode cX1_chosen 39 = .ok (.iaload, 1) := by decide +kernel
theorem dX1_chosen_40 : decode cX1_chosen 40 = .ok (.ireturn, 1) := by decide +kernel
abbrev MX1_chosen : zT := (yX1_chosen, cX1_chosen, 2, (Option.some Jvm.ClassFile.FieldType.int), [])
theorem plX1_chosen : zplain MX1_chosen 1 ∧ (zcodeW MX1_chosen ∈ lw_all ∧ Cond.initialized MX1_chosen.1.cls ∈ lw_all) := ⟨⟨by decide +kernel, by decide +kernel⟩, q1835, q101⟩
noncomputable def f_X1_chosen_40 (t0 : Int) (σ : zM) : Option zO :=
  some (0, zi t0, σ)
theorem w_X1_chosen_40 {g : zG} {lv : Nat} {out : zO} (t0 : Int) (σ : zM) {r : zO} (h : f_X1_chosen_40 t0 σ = some r) (hk : (fun o : zO => o = out) r) : Gj g MX1_chosen (lv) 40 [] [zi t0] σ out := by
  revert h
  unfold f_X1_chosen_40
  intro h
  cases h
  have hk : (0, zi t0, σ) = out := hk
  subst hk
  exact gj_ret (pc := 40) (t := .int) dX1_chosen_40 rfl ⟨rfl, rfl⟩ (fun h => h)
noncomputable def f_X1_chosen (x0 x1 : Int) (σ : zM) : Option zO :=
  (zgf σ 104 x0).bind fun v1 =>
  (zgf σ 821 v1).bind fun v2 =>
  if v2 ≤ x1 then
    (zgf σ 104 x0).bind fun v3 =>
    (zgf σ 819 v3).bind fun v4 =>
    (zgf σ 104 x0).bind fun v5 =>
    (zgf σ 821 v5).bind fun v6 =>
    (zga σ 101 v4 (zsub x1 v6)).bind fun v7 =>
    f_X1_chosen_40 v7 σ
  else
    (zgf σ 104 x0).bind fun v8 =>
    (zgf σ 818 v8).bind fun v9 =>
    (zga σ 101 v9 x1).bind fun v10 =>
    f_X1_chosen_40 v10 σ
theorem c_X1_chosen {g : zG} {lv : Nat} {x0 x1 : Int} {σ : zM} {out : zO} (h : f_X1_chosen x0 x1 σ = some out) : Cj g (lv) MX1_chosen [zr x0, zi x1] σ out := by
  refine cj_go (ls := [(0, zr x0), (1, zi x1)]) (by decide) (Nat.le_of_ble_eq_true rfl) rfl (zgen h (fun r hk => ?_))
  unfold f_X1_chosen
  refine zst_ (gj_iload_n 1 (pc := 0) dX1_chosen_0 rfl) ?_
  refine zst_ (gj_aload_n 0 (pc := 1) dX1_chosen_1 rfl) ?_
  refine gb_get (pc := 2) fl104 dX1_chosen_2 q845 (Or.inl rfl) (fun v1 => ?_)
  refine gb_getNe (pc := 5) fl821 dX1_chosen_5 q788 (Or.inl rfl) (fun v2 => ?_)
  refine gb_if (gj_icmp_ge 23 (pc := 8) dX1_chosen_8 (by decide)) ?_ ?_
  · refine zst_ (gj_aload_n 0 (pc := 23) dX1_chosen_23 rfl) ?_
    refine gb_get (pc := 24) fl104 dX1_chosen_24 q845 (Or.inl rfl) (fun v3 => ?_)
    refine gb_getNe (pc := 27) fl819 dX1_chosen_27 q786 (Or.inl rfl) (fun v4 => ?_)
    refine zst_ (gj_iload_n 1 (pc := 30) dX1_chosen_30 rfl) ?_
    refine zst_ (gj_aload_n 0 (pc := 31) dX1_chosen_31 rfl) ?_
    refine gb_get (pc := 32) fl104 dX1_chosen_32 q845 (Or.inl rfl) (fun v5 => ?_)
    refine gb_getNe (pc := 35) fl821 dX1_chosen_35 q788 (Or.inl rfl) (fun v6 => ?_)
    refine zst_ (gj_isub (pc := 38) dX1_chosen_38) ?_
    refine gb_iald (pc := 39) dX1_chosen_39 (fun v7 => ?_)
    refine zst_ (gj_sub [] rfl) ?_
    exact fun h => w_X1_chosen_40 v7 σ h hk
  · refine zst_ (gj_aload_n 0 (pc := 11) dX1_chosen_11 rfl) ?_
    refine gb_get (pc := 12) fl104 dX1_chosen_12 q845 (Or.inl rfl) (fun v8 => ?_)
    refine gb_getNe (pc := 15) fl818 dX1_chosen_15 q784 (Or.inl rfl) (fun v9 => ?_)
    refine zst_ (gj_iload_n 1 (pc := 18) dX1_chosen_18 rfl) ?_
    refine gb_iald (pc := 19) dX1_chosen_19 (fun v10 => ?_)
    refine zst_ (gj_goto 40 (pc := 20) dX1_chosen_20 (by decide)) ?_
    refine zst_ (gj_sub [] rfl) ?_
    exact fun h => w_X1_chosen_40 v10 σ h hk
theorem q302 : (Jvm.Cond.fieldLinkNest "LassoFinder" (156 : Nat) "LassoFinder$Model" "heads" "[I" "LassoFinder") ∈ lw_tbl := lw_at lw_m1 202 rfl
theorem q307 : (Jvm.Cond.fieldLinkNest "LassoFinder" (153 : Nat) "LassoFinder$Model" "to" "[I" "LassoFinder") ∈ lw_tbl := lw_at lw_m1 207 rfl
theorem q309 : (Jvm.Cond.fieldLinkNest "LassoFinder" (163 : Nat) "LassoFinder$Model" "by" "[I" "LassoFinder") ∈ lw_tbl := lw_at lw_m1 209 rfl
theorem q311 : (Jvm.Cond.fieldLinkNest "LassoFinder" (166 : Nat) "LassoFinder$Model" "with" "[I" "LassoFinder") ∈ lw_tbl := lw_at lw_m1 211 rfl
theorem q790 : (Jvm.Cond.fieldLinkNest "LassoFinder" (140 : Nat) "LassoFinder$Search" "cycles" "I" "LassoFinder") ∈ lw_tbl := lw_at lw_m3 210 rfl
theorem q1813 : (Jvm.Cond.code ({ cls := "LassoFinder", name := "lasso", desc := "(II)I" } : Jvm.MethodName) prog_1_method_13_code (5 : Nat) (Option.some Jvm.ClassFile.FieldType.int)) ∈ lw_all := lw_g (lw_at lw_m8 33 rfl) rfl
theorem q1814 : (Jvm.Cond.methodLink "LassoFinder" (149 : Nat) ({ cls := "LassoFinder", name := "within", desc := "(II)V" } : Jvm.MethodName)) ∈ lw_all := lw_g (lw_at lw_m8 34 rfl) rfl
theorem q1815 : (Jvm.Cond.static ({ cls := "LassoFinder", name := "within", desc := "(II)V" } : Jvm.MethodName)) ∈ lw_all := lw_g (lw_at lw_m8 35 rfl) rfl
theorem q1832 : (Jvm.Cond.methodLink "LassoFinder" (159 : Nat) ({ cls := "LassoFinder", name := "chosen", desc := "(I)I" } : Jvm.MethodName)) ∈ lw_all := lw_g (lw_at lw_m8 52 rfl) rfl
theorem q1834 : (Jvm.Cond.instanceMethod ({ cls := "LassoFinder", name := "chosen", desc := "(I)I" } : Jvm.MethodName)) ∈ lw_all := lw_g (lw_at lw_m8 54 rfl) rfl
abbrev cX1_lasso : ByteArray := prog_1_method_13_code
def yX1_lasso : MethodName := ⟨RX1, "lasso", "(II)I"⟩
theorem dX1_lasso_0 : decode cX1_lasso 0 = .ok (.iload_n 1, 1) := by decide +kernel
theorem dX1_lasso_1 : decode cX1_lasso 1 = .ok (.aload_n 0, 1) := by decide +kernel
theorem dX1_lasso_2 : decode cX1_lasso 2 = .ok (.getfield 82, 3) := by decide +kernel
theorem dX1_lasso_5 : decode cX1_lasso 5 = .ok (.ifCond .eq 21, 3) := by decide +kernel
theorem dX1_lasso_8 : decode cX1_lasso 8 = .ok (.aload_n 0, 1) := by decide +kernel
theorem dX1_lasso_9 : decode cX1_lasso 9 = .ok (.getfield 44, 3) := by decide +kernel
theorem dX1_lasso_12 : decode cX1_lasso 12 = .ok (.getfield 137, 3) := by decide +kernel
theorem dX1_lasso_15 : decode cX1_lasso 15 = .ok (.aload_n 0, 1) := by decide +kernel
theorem dX1_lasso_16 : decode cX1_lasso 16 = .ok (.getfield 44, 3) := by decide +kernel
theorem dX1_lasso_19 : decode cX1_lasso 19 = .ok (.getfield 140, 3) := by decide +kernel
theorem dX1_lasso_22 : decode cX1_lasso 22 = .ok (.iadd, 1) := by decide +kernel
theorem dX1_lasso_23 : decode cX1_lasso 23 = .ok (.goto 4, 3) := by decide +kernel
theorem dX1_lasso_26 : decode cX1_lasso 26 = .ok (.iconst 0, 1) := by decide +kernel
theorem dX1_lasso_27 : decode cX1_lasso 27 = .ok (.invokestatic 149, 3) := by decide +kernel
theorem dX1_lasso_30 : decode cX1_lasso 30 = .ok (.iload_n 2, 1) := by decide +kernel
theorem dX1_lasso_31 : decode cX1_lasso 31 = .ok (.iconst 3, 1) := by decide +kernel
theorem dX1_lasso_32 : decode cX1_lasso 32 = .ok (.invokestatic 149, 3) := by decide +kernel
theorem dX1_lasso_35 : decode cX1_lasso 35 = .ok (.iconst 0, 1) := by decide +kernel
theorem dX1_lasso_36 : decode cX1_lasso 36 = .ok (.istore_n 3, 1) := by decide +kernel
theorem dX1_lasso_37 : decode cX1_lasso 37 = .ok (.iconst 0, 1) := by decide +kernel
theorem dX1_lasso_38 : decode cX1_lasso 38 = .ok (.istore 4, 2) := by decide +kernel
theorem dX1_lasso_40 : decode cX1_lasso 40 = .ok (.iload 4, 2) := by decide +kernel
theorem dX1_lasso_42 : decode cX1_lasso 42 = .ok (.iload_n 1, 1) := by decide +kernel
theorem dX1_lasso_43 : decode cX1_lasso 43 = .ok (.if_icmp .ge 34, 3) := by decide +kernel
theorem dX1_lasso_46 : decode cX1_lasso 46 = .ok (.aload_n 0, 1) := by decide +kernel
theorem dX1_lasso_47 : decode cX1_lasso 47 = .ok (.getfield 19, 3) := by decide +kernel
theorem dX1_lasso_50 : decode cX1_lasso 50 = .ok (.getfield 153, 3) := by decide +kernel
theorem dX1_lasso_53 : decode cX1_lasso 53 = .ok (.aload_n 0, 1) := by decide +kernel
theorem dX1_lasso_54 : decode cX1_lasso 54 = .ok (.getfield 19, 3) := by decide +kernel
theorem dX1_lasso_57 : decode cX1_lasso 57 = .ok (.getfield 156, 3) := by decide +kernel
theorem dX1_lasso_60 : decode cX1_lasso 60 = .ok (.iload_n 3, 1) := by decide +kernel
theorem dX1_lasso_61 : decode cX1_lasso 61 = .ok (.iaload, 1) := by decide +kernel
theorem dX1_lasso_62 : decode cX1_lasso 62 = .ok (.aload_n 0, 1) := by decide +kernel
theorem dX1_lasso_63 : decode cX1_lasso 63 = .ok (.iload 4, 2) := by decide +kernel
theorem dX1_lasso_65 : decode cX1_lasso 65 = .ok (.invokevirtual 159, 3) := by decide +kernel
theorem dX1_lasso_68 : decode cX1_lasso 68 = .ok (.iadd, 1) := by decide +kernel
theorem dX1_lasso_69 : decode cX1_lasso 69 = .ok (.iaload, 1) := by decide +kernel
theorem dX1_lasso_70 : decode cX1_lasso 70 = .ok (.istore_n 3, 1) := by decide +kernel
theorem dX1_lasso_71 : decode cX1_lasso 71 = .ok (.iinc 4 1, 3) := by decide +kernel
theorem dX1_lasso_74 : decode cX1_lasso 74 = .ok (.goto (-34), 3) := by decide +kernel
theorem dX1_lasso_77 : decode cX1_lasso 77 = .ok (.aload_n 0, 1) := by decide +kernel
theorem dX1_lasso_78 : decode cX1_lasso 78 = .ok (.getfield 19, 3) := by decide +kernel
theorem dX1_lasso_81 : decode cX1_lasso 81 = .ok (.getfield 156, 3) := by decide +kernel
theorem dX1_lasso_84 : decode cX1_lasso 84 = .ok (.iload_n 3, 1) := by decide +kernel
theorem dX1_lasso_85 : decode cX1_lasso 85 = .ok (.iaload, 1) := by decide +kernel
theorem dX1_lasso_86 : decode cX1_lasso 86 = .ok (.aload_n 0, 1) := by decide +kernel
theorem dX1_lasso_87 : decode cX1_lasso 87 = .ok (.iload_n 1, 1) := by decide +kernel
theorem dX1_lasso_88 : decode cX1_lasso 88 = .ok (.invokevirtual 159, 3) := by decide +kernel
theorem dX1_lasso_91 : decode cX1_lasso 91 = .ok (.iadd, 1) := by decide +kernel
theorem dX1_lasso_92 : decode cX1_lasso 92 = .ok (.istore 4, 2) := by decide +kernel
theorem dX1_lasso_94 : decode cX1_lasso 94 = .ok (.iload_n 2, 1) := by decide +kernel
theorem dX1_lasso_95 : decode cX1_lasso 95 = .ok (.ifCond .ne 11, 3) := by decide +kernel
theorem dX1_lasso_98 : decode cX1_lasso 98 = .ok (.aload_n 0, 1) := by decide +kernel
theorem dX1_lasso_99 : decode cX1_lasso 99 = .ok (.iload_n 1, 1) := by decide +kernel
theorem dX1_lasso_100 : decode cX1_lasso 100 = .ok (.invokevirtual 159, 3) := by decide +kernel
theorem dX1_lasso_103 : decode cX1_lasso 103 = .ok (.goto 31, 3) := by decide +kernel
theorem dX1_lasso_106 : decode cX1_lasso 106 = .ok (.iload_n 2, 1) := by decide +kernel
theorem dX1_lasso_107 : decode cX1_lasso 107 = .ok (.iconst 1, 1) := by decide +kernel
theorem dX1_lasso_108 : decode cX1_lasso 108 = .ok (.if_icmp .ne 16, 3) := by decide +kernel
theorem dX1_lasso_111 : decode cX1_lasso 111 = .ok (.aload_n 0, 1) := by decide +kernel
theorem dX1_lasso_112 : decode cX1_lasso 112 = .ok (.getfield 19, 3) := by decide +kernel
theorem dX1_lasso_115 : decode cX1_lasso 115 = .ok (.getfield 163, 3) := by decide +kernel
theorem dX1_lasso_118 : decode cX1_lasso 118 = .ok (.iload 4, 2) := by decide +kernel
theorem dX1_lasso_120 : decode cX1_lasso 120 = .ok (.iaload, 1) := by decide +kernel
theorem dX1_lasso_121 : decode cX1_lasso 121 = .ok (.goto 13, 3) := by decide +kernel
theorem dX1_lasso_124 : decode cX1_lasso 124 = .ok (.aload_n 0, 1) := by decide +kernel
theorem dX1_lasso_125 : decode cX1_lasso 125 = .ok (.getfield 19, 3) := by decide +kernel
theorem dX1_lasso_128 : decode cX1_lasso 128 = .ok (.getfield 166, 3) := by decide +kernel
theorem dX1_lasso_131 : decode cX1_lasso 131 = .ok (.iload 4, 2) := by decide +kernel
theorem dX1_lasso_133 : decode cX1_lasso 133 = .ok (.iaload, 1) := by decide +kernel
theorem dX1_lasso_134 : decode cX1_lasso 134 = .ok (.ireturn, 1) := by decide +kernel
abbrev MX1_lasso : zT := (yX1_lasso, cX1_lasso, 5, (Option.some Jvm.ClassFile.FieldType.int), [])
theorem plX1_lasso : zplain MX1_lasso 2 ∧ (zcodeW MX1_lasso ∈ lw_all ∧ Cond.initialized MX1_lasso.1.cls ∈ lw_all) := ⟨⟨by decide +kernel, by decide +kernel⟩, q1813, q101⟩
noncomputable def f_X1_lasso_134 (t0 : Int) (σ : zM) : Option zO :=
  some (0, zi t0, σ)
theorem w_X1_lasso_134 {g : zG} {lv : Nat} {out : zO} (t0 : Int) (σ : zM) {r : zO} (h : f_X1_lasso_134 t0 σ = some r) (hk : (fun o : zO => o = out) r) : Gj g MX1_lasso (lv + 7) 134 [] [zi t0] σ out := by
  revert h
  unfold f_X1_lasso_134
  intro h
  cases h
  have hk : (0, zi t0, σ) = out := hk
  subst hk
  exact gj_ret (pc := 134) (t := .int) dX1_lasso_134 rfl ⟨rfl, rfl⟩ (fun h => h)
noncomputable def f_X1_lasso_77 (x0 x1 x2 x3 : Int) (σ : zM) : Option zO :=
  (zgf σ 101 x0).bind fun v1 =>
  (zgf σ 215 v1).bind fun v2 =>
  (zga σ 101 v2 x3).bind fun v3 =>
  zgd (zis σ 2 x0) <|
  zci (f_X1_chosen x0 x1 σ) fun v4 σ5 =>
  zlet ((zadd v3 v4)) fun y6 =>
  if x2 ≠ 0 then
    if x2 ≠ 1 then
      (zgf σ5 101 x0).bind fun v7 =>
      (zgf σ5 219 v7).bind fun v8 =>
      (zga σ5 101 v8 y6).bind fun v9 =>
      f_X1_lasso_134 v9 σ5
    else
      (zgf σ5 101 x0).bind fun v10 =>
      (zgf σ5 218 v10).bind fun v11 =>
      (zga σ5 101 v11 y6).bind fun v12 =>
      f_X1_lasso_134 v12 σ5
  else
    zgd (zis σ5 2 x0) <|
    zci (f_X1_chosen x0 x1 σ5) fun v13 σ14 =>
    f_X1_lasso_134 v13 σ14
theorem w_X1_lasso_77 {g : zG} {lv : Nat} {out : zO} (x0 x1 x2 x3 : Int) (σ : zM) {r : zO} (h : f_X1_lasso_77 x0 x1 x2 x3 σ = some r) (hk : (fun o : zO => o = out) r) : Gj g MX1_lasso (lv + 7) 77 [(0, zr x0), (1, zi x1), (2, zi x2), (3, zi x3)] [] σ out := by
  revert h
  unfold f_X1_lasso_77
  refine zst_ (gj_aload_n 0 (pc := 77) dX1_lasso_77 rfl) ?_
  refine gb_get (pc := 78) fl101 dX1_lasso_78 q842 (Or.inl rfl) (fun v1 => ?_)
  refine gb_getNe (pc := 81) fl215 dX1_lasso_81 q302 (Or.inl rfl) (fun v2 => ?_)
  refine zst_ (gj_iload_n 3 (pc := 84) dX1_lasso_84 rfl) ?_
  refine gb_iald (pc := 85) dX1_lasso_85 (fun v3 => ?_)
  refine zst_ (gj_aload_n 0 (pc := 86) dX1_lasso_86 rfl) ?_
  refine zst_ (gj_iload_n 1 (pc := 87) dX1_lasso_87 rfl) ?_
  refine gb_gd (fun hb => ?_)
  refine gb_callI (pc := 88) (as := [zr x0, zi x1]) (rest := [zi v3]) (zCl.of (zLk_V (M := MX1_lasso) (ci := 1) (r := (RX1, TX1, 12)) plX1_chosen.1 rfl rfl (zisE hb).1 (zisE hb).2 dX1_lasso_88 q1832 q1834 qs43 q1835) plX1_chosen (Nat.le_of_ble_eq_true rfl) (fun h => c_X1_chosen h)) (fun v4 σ5 => ?_)
  refine zst_ (gj_iadd (pc := 91) dX1_lasso_91) ?_
  refine gb_let (fun y6 => ?_)
  refine zst_ (gj_istore (pc := 92) (ls' := [(4, zi y6), (0, zr x0), (1, zi x1), (2, zi x2), (3, zi x3)]) dX1_lasso_92 (by decide) rfl) ?_
  refine zst_ (gj_iload_n 3 (pc := 94) dX1_lasso_94 rfl) ?_
  refine gb_if (gj_if_ne 106 (pc := 95) dX1_lasso_95 (by decide)) ?_ ?_
  · refine zst_ (gj_iload_n 3 (pc := 106) dX1_lasso_106 rfl) ?_
    refine zst_ (gj_iconst (pc := 107) dX1_lasso_107 (by decide)) ?_
    refine gb_if (gj_icmp_ne 124 (pc := 108) dX1_lasso_108 (by decide)) ?_ ?_
    · refine zst_ (gj_aload_n 1 (pc := 124) dX1_lasso_124 rfl) ?_
      refine gb_get (pc := 125) fl101 dX1_lasso_125 q842 (Or.inl rfl) (fun v7 => ?_)
      refine gb_getNe (pc := 128) fl219 dX1_lasso_128 q311 (Or.inl rfl) (fun v8 => ?_)
      refine zst_ (gj_iload 0 (pc := 131) dX1_lasso_131 rfl) ?_
      refine gb_iald (pc := 133) dX1_lasso_133 (fun v9 => ?_)
      refine zst_ (gj_sub [] rfl) ?_
      exact fun h => w_X1_lasso_134 v9 σ5 h hk
    · refine zst_ (gj_aload_n 1 (pc := 111) dX1_lasso_111 rfl) ?_
      refine gb_get (pc := 112) fl101 dX1_lasso_112 q842 (Or.inl rfl) (fun v10 => ?_)
      refine gb_getNe (pc := 115) fl218 dX1_lasso_115 q309 (Or.inl rfl) (fun v11 => ?_)
      refine zst_ (gj_iload 0 (pc := 118) dX1_lasso_118 rfl) ?_
      refine gb_iald (pc := 120) dX1_lasso_120 (fun v12 => ?_)
      refine zst_ (gj_goto 134 (pc := 121) dX1_lasso_121 (by decide)) ?_
      refine zst_ (gj_sub [] rfl) ?_
      exact fun h => w_X1_lasso_134 v12 σ5 h hk
  · refine zst_ (gj_aload_n 1 (pc := 98) dX1_lasso_98 rfl) ?_
    refine zst_ (gj_iload_n 2 (pc := 99) dX1_lasso_99 rfl) ?_
    refine gb_gd (fun hb => ?_)
    refine gb_callI (pc := 100) (as := [zr x0, zi x1]) (rest := []) (zCl.of (zLk_V (M := MX1_lasso) (ci := 1) (r := (RX1, TX1, 12)) plX1_chosen.1 rfl rfl (zisE hb).1 (zisE hb).2 dX1_lasso_100 q1832 q1834 qs43 q1835) plX1_chosen (Nat.le_of_ble_eq_true rfl) (fun h => c_X1_chosen h)) (fun v13 σ14 => ?_)
    refine zst_ (gj_goto 134 (pc := 103) dX1_lasso_103 (by decide)) ?_
    refine zst_ (gj_sub [] rfl) ?_
    exact fun h => w_X1_lasso_134 v13 σ14 h hk
noncomputable def f_X1_lasso_40_b (x0 x1 x2 x3 x4 : Int) (σ : zM) : Option ((Int × Int × zM) ⊕ zO) :=
  if x1 ≤ x4 then
    (f_X1_lasso_77 x0 x1 x2 x3 σ).map (fun r => (.inr r))
  else
    (zgf σ 101 x0).bind fun v1 =>
    (zgf σ 217 v1).bind fun v2 =>
    (zgf σ 101 x0).bind fun v3 =>
    (zgf σ 215 v3).bind fun v4 =>
    (zga σ 101 v4 x3).bind fun v5 =>
    zgd (zis σ 2 x0) <|
    zci (f_X1_chosen x0 x4 σ) fun v6 σ7 =>
    (zga σ7 101 v2 (zadd v5 v6)).bind fun v8 =>
    zlet (zadd x4 1) fun y9 =>
    some (.inl (v8, y9, σ7))
noncomputable def f_X1_lasso_40 (x0 x1 x2 x3 x4 : Int) (σ : zM) : Option zO :=
  zloop (fun s : Int × Int × zM => f_X1_lasso_40_b x0 x1 x2 s.1 s.2.1 s.2.2) (x3, x4, σ)
theorem w_X1_lasso_40_b {g : zG} {lv : Nat} {out : zO} (x0 x1 x2 x3 x4 : Int) (σ : zM) {r : ((Int × Int × zM) ⊕ zO)} (h : f_X1_lasso_40_b x0 x1 x2 x3 x4 σ = some r) (hk : (zKL (fun s : Int × Int × zM => Gj g MX1_lasso (lv + 7) 40 [(0, zr x0), (1, zi x1), (2, zi x2), (3, zi s.1), (4, zi s.2.1)] [] s.2.2 out) (fun o : zO => o = out)) r) : Gj g MX1_lasso (lv + 7) 40 [(0, zr x0), (1, zi x1), (2, zi x2), (3, zi x3), (4, zi x4)] [] σ out := by
  revert h
  unfold f_X1_lasso_40_b
  refine zst_ (gj_iload 4 (pc := 40) dX1_lasso_40 rfl) ?_
  refine zst_ (gj_iload_n 1 (pc := 42) dX1_lasso_42 rfl) ?_
  refine gb_if (gj_icmp_ge 77 (pc := 43) dX1_lasso_43 (by decide)) ?_ ?_
  · refine zst_ (gj_sub [0, 1, 2, 3] rfl) ?_
    intro h
    obtain ⟨r0, h0, rfl⟩ := zmE h
    exact w_X1_lasso_77 x0 x1 x2 x3 σ h0 hk
  · refine zst_ (gj_aload_n 0 (pc := 46) dX1_lasso_46 rfl) ?_
    refine gb_get (pc := 47) fl101 dX1_lasso_47 q842 (Or.inl rfl) (fun v1 => ?_)
    refine gb_getNe (pc := 50) fl217 dX1_lasso_50 q307 (Or.inl rfl) (fun v2 => ?_)
    refine zst_ (gj_aload_n 0 (pc := 53) dX1_lasso_53 rfl) ?_
    refine gb_get (pc := 54) fl101 dX1_lasso_54 q842 (Or.inl rfl) (fun v3 => ?_)
    refine gb_getNe (pc := 57) fl215 dX1_lasso_57 q302 (Or.inl rfl) (fun v4 => ?_)
    refine zst_ (gj_iload_n 3 (pc := 60) dX1_lasso_60 rfl) ?_
    refine gb_iald (pc := 61) dX1_lasso_61 (fun v5 => ?_)
    refine zst_ (gj_aload_n 0 (pc := 62) dX1_lasso_62 rfl) ?_
    refine zst_ (gj_iload 4 (pc := 63) dX1_lasso_63 rfl) ?_
    refine gb_gd (fun hb => ?_)
    refine gb_callI (pc := 65) (as := [zr x0, zi x4]) (rest := [zi v5, zr v2]) (zCl.of (zLk_V (M := MX1_lasso) (ci := 1) (r := (RX1, TX1, 12)) plX1_chosen.1 rfl rfl (zisE hb).1 (zisE hb).2 dX1_lasso_65 q1832 q1834 qs43 q1835) plX1_chosen (Nat.le_of_ble_eq_true rfl) (fun h => c_X1_chosen h)) (fun v6 σ7 => ?_)
    refine zst_ (gj_iadd (pc := 68) dX1_lasso_68) ?_
    refine gb_iald (pc := 69) dX1_lasso_69 (fun v8 => ?_)
    refine zst_ (gj_istore_n (pc := 70) (ls' := [(3, zi v8), (0, zr x0), (1, zi x1), (2, zi x2), (4, zi x4)]) dX1_lasso_70 (by decide) rfl) ?_
    refine gb_iinc (pc := 71) 4 (fun y9 => [(4, zi y9), (3, zi v8), (0, zr x0), (1, zi x1), (2, zi x2)]) dX1_lasso_71 rfl (by decide) (fun _ => rfl) (fun y9 => ?_)
    refine zst_ (gj_goto 40 (pc := 74) dX1_lasso_74 (by decide)) ?_
    refine zst_ (gj_sub [2, 3, 4, 1, 0] rfl) ?_
    intro h
    cases h
    exact hk
theorem w_X1_lasso_40 {g : zG} {lv : Nat} {out : zO} (x0 x1 x2 x3 x4 : Int) (σ : zM) {r : zO} (h : f_X1_lasso_40 x0 x1 x2 x3 x4 σ = some r) (hk : (fun o : zO => o = out) r) : Gj g MX1_lasso (lv + 7) 40 [(0, zr x0), (1, zi x1), (2, zi x2), (3, zi x3), (4, zi x4)] [] σ out :=
  gj_loop (P := (fun s : Int × Int × zM => Gj g MX1_lasso (lv + 7) 40 [(0, zr x0), (1, zi x1), (2, zi x2), (3, zi s.1), (4, zi s.2.1)] [] s.2.2 out)) (fun s x hb hx => w_X1_lasso_40_b x0 x1 x2 s.1 s.2.1 s.2.2 hb hx) h hk
noncomputable def f_X1_lasso_27 (x0 x1 x2 t0 t1 : Int) (σ : zM) : Option zO :=
  zcvT (f_X1_within t1 t0 σ) (fun n a σ1 => some (n + 1, zr a, σ1)) fun σ1 =>
  zcvT (f_X1_within x2 3 σ1) (fun n a σ2 => some (n + 1, zr a, σ2)) fun σ2 =>
  f_X1_lasso_40 x0 x1 x2 0 0 σ2
theorem w_X1_lasso_27 {g : zG} {lv : Nat} {out : zO} (x0 x1 x2 t0 t1 : Int) (σ : zM) {r : zO} (h : f_X1_lasso_27 x0 x1 x2 t0 t1 σ = some r) (hk : (fun o : zO => o = out) r) : Gj g MX1_lasso (lv + 7) 27 [(0, zr x0), (1, zi x1), (2, zi x2)] [zi t0, zi t1] σ out := by
  revert h
  unfold f_X1_lasso_27
  refine gb_callVT (pc := 27) (as := [zi t1, zi t0]) (rest := []) (zCl.of (zLk_S (M := MX1_lasso) plX1_within.1 rfl dX1_lasso_27 q1814 q1815 q101 q1816) plX1_within (Nat.le_of_ble_eq_true rfl) (fun h => c_X1_within h)) (fun n a s0 h => by cases h; exact Or.inl ⟨rfl, hk⟩) (fun σ1 => ?_)
  refine zst_ (gj_iload_n 2 (pc := 30) dX1_lasso_30 rfl) ?_
  refine zst_ (gj_iconst (pc := 31) dX1_lasso_31 (by decide)) ?_
  refine gb_callVT (pc := 32) (as := [zi x2, zi 3]) (rest := []) (zCl.of (zLk_S (M := MX1_lasso) plX1_within.1 rfl dX1_lasso_32 q1814 q1815 q101 q1816) plX1_within (Nat.le_of_ble_eq_true rfl) (fun h => c_X1_within h)) (fun n a s0 h => by cases h; exact Or.inl ⟨rfl, hk⟩) (fun σ2 => ?_)
  refine zst_ (gj_iconst (pc := 35) dX1_lasso_35 (by decide)) ?_
  refine zst_ (gj_istore_n (pc := 36) (ls' := [(3, zi 0), (0, zr x0), (1, zi x1), (2, zi x2)]) dX1_lasso_36 (by decide) rfl) ?_
  refine zst_ (gj_iconst (pc := 37) dX1_lasso_37 (by decide)) ?_
  refine zst_ (gj_istore (pc := 38) (ls' := [(4, zi 0), (3, zi 0), (0, zr x0), (1, zi x1), (2, zi x2)]) dX1_lasso_38 (by decide) rfl) ?_
  refine zst_ (gj_sub [2, 3, 4, 1, 0] rfl) ?_
  exact fun h => w_X1_lasso_40 x0 x1 x2 0 0 σ2 h hk
noncomputable def f_X1_lasso (x0 x1 x2 : Int) (σ : zM) : Option zO :=
  (zgf σ 107 x0).bind fun v1 =>
  if v1 = 0 then
    f_X1_lasso_27 x0 x1 x2 0 x1 σ
  else
    (zgf σ 104 x0).bind fun v2 =>
    (zgf σ 821 v2).bind fun v3 =>
    (zgf σ 104 x0).bind fun v4 =>
    (zgf σ 822 v4).bind fun v5 =>
    f_X1_lasso_27 x0 x1 x2 (zadd v3 v5) x1 σ
theorem c_X1_lasso {g : zG} {lv : Nat} {x0 x1 x2 : Int} {σ : zM} {out : zO} (h : f_X1_lasso x0 x1 x2 σ = some out) : Cj g (lv + 7) MX1_lasso [zr x0, zi x1, zi x2] σ out := by
  refine cj_go (ls := [(0, zr x0), (1, zi x1), (2, zi x2)]) (by decide) (Nat.le_of_ble_eq_true rfl) rfl (zgen h (fun r hk => ?_))
  unfold f_X1_lasso
  refine zst_ (gj_iload_n 1 (pc := 0) dX1_lasso_0 rfl) ?_
  refine zst_ (gj_aload_n 0 (pc := 1) dX1_lasso_1 rfl) ?_
  refine gb_get (pc := 2) fl107 dX1_lasso_2 q848 (Or.inl rfl) (fun v1 => ?_)
  refine gb_if (gj_if_eq 26 (pc := 5) dX1_lasso_5 (by decide)) ?_ ?_
  · refine zst_ (gj_iconst (pc := 26) dX1_lasso_26 (by decide)) ?_
    exact fun h => w_X1_lasso_27 x0 x1 x2 0 x1 σ h hk
  · refine zst_ (gj_aload_n 0 (pc := 8) dX1_lasso_8 rfl) ?_
    refine gb_get (pc := 9) fl104 dX1_lasso_9 q845 (Or.inl rfl) (fun v2 => ?_)
    refine gb_getNe (pc := 12) fl821 dX1_lasso_12 q788 (Or.inl rfl) (fun v3 => ?_)
    refine zst_ (gj_aload_n 0 (pc := 15) dX1_lasso_15 rfl) ?_
    refine gb_get (pc := 16) fl104 dX1_lasso_16 q845 (Or.inl rfl) (fun v4 => ?_)
    refine gb_getNe (pc := 19) fl822 dX1_lasso_19 q790 (Or.inl rfl) (fun v5 => ?_)
    refine zst_ (gj_iadd (pc := 22) dX1_lasso_22) ?_
    refine zst_ (gj_goto 27 (pc := 23) dX1_lasso_23 (by decide)) ?_
    exact fun h => w_X1_lasso_27 x0 x1 x2 (zadd v3 v5) x1 σ h hk
theorem q1806 : (Jvm.Cond.codeWith ({ cls := "LassoFinderLaw", name := "lasso", desc := "(LLassoFinder;II[J)I" } : Jvm.MethodName) method_6_code (5 : Nat) (Option.some Jvm.ClassFile.FieldType.int) [((0 : Nat), (10 : Nat), (13 : Nat), (30 : Nat))]) ∈ lw_all := lw_g (lw_at lw_m8 26 rfl) rfl
theorem q1807 : (Jvm.Cond.classLink "LassoFinderLaw" (30 : Nat) "java/lang/IndexOutOfBoundsException") ∈ lw_all := lw_g (lw_at lw_m8 27 rfl) rfl
theorem q1810 : (Jvm.Cond.methodLink "LassoFinderLaw" (26 : Nat) ({ cls := "LassoFinder", name := "lasso", desc := "(II)I" } : Jvm.MethodName)) ∈ lw_all := lw_g (lw_at lw_m8 30 rfl) rfl
theorem q1811 : (Jvm.Cond.instanceMethod ({ cls := "LassoFinder", name := "lasso", desc := "(II)I" } : Jvm.MethodName)) ∈ lw_all := lw_g (lw_at lw_m8 31 rfl) rfl
theorem q1812 : (Jvm.Cond.selects "LassoFinder" ({ cls := "LassoFinder", name := "lasso", desc := "(II)I" } : Jvm.MethodName) ({ cls := "LassoFinder", name := "lasso", desc := "(II)I" } : Jvm.MethodName)) ∈ lw_all := lw_g (lw_at lw_m8 32 rfl) rfl
abbrev cX0_lasso : ByteArray := method_6_code
def yX0_lasso : MethodName := ⟨RX0, "lasso", "(LLassoFinder;II[J)I"⟩
theorem dX0_lasso_0 : decode cX0_lasso 0 = .ok (.aload_n 3, 1) := by decide +kernel
theorem dX0_lasso_1 : decode cX0_lasso 1 = .ok (.iconst 0, 1) := by decide +kernel
theorem dX0_lasso_2 : decode cX0_lasso 2 = .ok (.aload_n 0, 1) := by decide +kernel
theorem dX0_lasso_3 : decode cX0_lasso 3 = .ok (.iload_n 1, 1) := by decide +kernel
theorem dX0_lasso_4 : decode cX0_lasso 4 = .ok (.iload_n 2, 1) := by decide +kernel
theorem dX0_lasso_5 : decode cX0_lasso 5 = .ok (.invokevirtual 26, 3) := by decide +kernel
theorem dX0_lasso_8 : decode cX0_lasso 8 = .ok (.i2l, 1) := by decide +kernel
theorem dX0_lasso_9 : decode cX0_lasso 9 = .ok (.lastore, 1) := by decide +kernel
theorem dX0_lasso_10 : decode cX0_lasso 10 = .ok (.goto 7, 3) := by decide +kernel
theorem dX0_lasso_13 : decode cX0_lasso 13 = .ok (.astore 4, 2) := by decide +kernel
theorem dX0_lasso_15 : decode cX0_lasso 15 = .ok (.iconst 1, 1) := by decide +kernel
theorem dX0_lasso_16 : decode cX0_lasso 16 = .ok (.ireturn, 1) := by decide +kernel
theorem dX0_lasso_17 : decode cX0_lasso 17 = .ok (.iconst 0, 1) := by decide +kernel
theorem dX0_lasso_18 : decode cX0_lasso 18 = .ok (.ireturn, 1) := by decide +kernel
abbrev MX0_lasso : zT := (yX0_lasso, cX0_lasso, 5, (Option.some Jvm.ClassFile.FieldType.int), [(0, 10, 13, 30)])
theorem plX0_lasso : zplain MX0_lasso 4 ∧ (zcodeW MX0_lasso ∈ lw_all ∧ Cond.initialized MX0_lasso.1.cls ∈ lw_all) := ⟨⟨by decide +kernel, by decide +kernel⟩, q1806, q100⟩
noncomputable def f_X0_lasso_13 (t0 : Int) (σ : zM) : Option zO :=
  some (0, zi 1, σ)
theorem w_X0_lasso_13 {g : zG} {lv : Nat} {out : zO} (t0 : Int) (σ : zM) {r : zO} (h : f_X0_lasso_13 t0 σ = some r) (hk : (fun o : zO => o = out) r) : Gj g MX0_lasso (lv + 8) 13 [] [zr t0] σ out := by
  revert h
  unfold f_X0_lasso_13
  refine zst_ (gj_astore (pc := 13) (ls' := [(4, zr t0)]) dX0_lasso_13 (by decide) rfl) ?_
  refine zst_ (gj_iconst (pc := 15) dX0_lasso_15 (by decide)) ?_
  intro h
  cases h
  have hk : (0, zi 1, σ) = out := hk
  subst hk
  exact gj_ret (pc := 16) (t := .int) dX0_lasso_16 rfl ⟨rfl, rfl⟩ (fun h => h)
noncomputable def f_X0_lasso (x0 x1 x2 x3 : Int) (σ : zM) : Option zO :=
  zgd (zis σ 2 x0) <|
  zciT (f_X1_lasso x0 x1 x2 σ) (fun n a σ2 => if n = 3 then f_X0_lasso_13 a σ2 else none) fun v1 σ2 =>
  (zpa σ2 102 x3 0 v1).bind fun σ3 =>
  some (0, zi 0, σ3)
theorem c_X0_lasso {g : zG} {lv : Nat} {x0 x1 x2 x3 : Int} {σ : zM} {out : zO} (h : f_X0_lasso x0 x1 x2 x3 σ = some out) : Cj g (lv + 8) MX0_lasso [zr x0, zi x1, zi x2, zr x3] σ out := by
  refine cj_go (ls := [(0, zr x0), (1, zi x1), (2, zi x2), (3, zr x3)]) (by decide) (Nat.le_of_ble_eq_true rfl) rfl (zgen h (fun r hk => ?_))
  unfold f_X0_lasso
  refine zst_ (gj_aload_n 3 (pc := 0) dX0_lasso_0 rfl) ?_
  refine zst_ (gj_iconst (pc := 1) dX0_lasso_1 (by decide)) ?_
  refine zst_ (gj_aload_n 0 (pc := 2) dX0_lasso_2 rfl) ?_
  refine zst_ (gj_iload_n 1 (pc := 3) dX0_lasso_3 rfl) ?_
  refine zst_ (gj_iload_n 2 (pc := 4) dX0_lasso_4 rfl) ?_
  refine gb_gd (fun hb => ?_)
  refine gb_callIT (pc := 5) (as := [zr x0, zi x1, zi x2]) (rest := [zi 0, zr x3]) (zCl.of (zLk_V (M := MX0_lasso) (ci := 1) (r := (RX1, TX1, 12)) plX1_lasso.1 rfl rfl (zisE hb).1 (zisE hb).2 dX0_lasso_5 q1810 q1811 q1812 q1813) plX1_lasso (Nat.le_of_ble_eq_true rfl) (fun h => c_X1_lasso h)) (fun n a s0 => gb_hn (fun h => Or.inr ⟨[], (0, 10, 13, 30), [], rfl, (fun z hz => by cases hz), ⟨by decide, by decide⟩, by decide, q1807, gj_sub [] rfl (w_X0_lasso_13 a s0 h hk)⟩) ((fun h => by cases h))) (fun v1 σ2 => ?_)
  refine zst_ (gj_i2l (pc := 8) dX0_lasso_8) ?_
  refine gb_last (pc := 9) dX0_lasso_9 (fun σ3 => ?_)
  refine zst_ (gj_goto 17 (pc := 10) dX0_lasso_10 (by decide)) ?_
  refine zst_ (gj_iconst (pc := 17) dX0_lasso_17 (by decide)) ?_
  intro h
  cases h
  have hk : (0, zi 0, σ3) = out := hk
  subst hk
  exact gj_ret (pc := 18) (t := .int) dX0_lasso_18 rfl ⟨rfl, rfl⟩ (fun h => h)
theorem q850 : (Jvm.Cond.fieldLink "LassoFinder" (52 : Nat) "LassoFinder" "walked" "[I") ∈ lw_all := lw_g (lw_at lw_m4 30 rfl) rfl
theorem q1842 : (Jvm.Cond.code ({ cls := "LassoFinder", name := "walk", desc := "()V" } : Jvm.MethodName) prog_1_method_14_code (1 : Nat) (Option.none : Option Jvm.ClassFile.FieldType)) ∈ lw_all := lw_g (lw_at lw_m8 62 rfl) rfl
theorem fl109 : zfl 109 2 "LassoFinder" "walked" "[I" true := ⟨rfl, rfl, rfl⟩
theorem fr109 {g : zG} {v : Int} : zok g (2, v) → zokt g (zft 109) v := fun h => h
abbrev cX1_walk : ByteArray := prog_1_method_14_code
def yX1_walk : MethodName := ⟨RX1, "walk", "()V"⟩
theorem dX1_walk_0 : decode cX1_walk 0 = .ok (.aload_n 0, 1) := by decide +kernel
theorem dX1_walk_1 : decode cX1_walk 1 = .ok (.getfield 97, 3) := by decide +kernel
theorem dX1_walk_4 : decode cX1_walk 4 = .ok (.invokestatic 122, 3) := by decide +kernel
theorem dX1_walk_7 : decode cX1_walk 7 = .ok (.aload_n 0, 1) := by decide +kernel
theorem dX1_walk_8 : decode cX1_walk 8 = .ok (.iconst 0, 1) := by decide +kernel
theorem dX1_walk_9 : decode cX1_walk 9 = .ok (.putfield 56, 3) := by decide +kernel
theorem dX1_walk_12 : decode cX1_walk 12 = .ok (.aload_n 0, 1) := by decide +kernel
theorem dX1_walk_13 : decode cX1_walk 13 = .ok (.getfield 52, 3) := by decide +kernel
theorem dX1_walk_16 : decode cX1_walk 16 = .ok (.iconst 0, 1) := by decide +kernel
theorem dX1_walk_17 : decode cX1_walk 17 = .ok (.iconst 0, 1) := by decide +kernel
theorem dX1_walk_18 : decode cX1_walk 18 = .ok (.iastore, 1) := by decide +kernel
theorem dX1_walk_19 : decode cX1_walk 19 = .ok (.return_, 1) := by decide +kernel
abbrev MX1_walk : zT := (yX1_walk, cX1_walk, 1, (Option.none : Option Jvm.ClassFile.FieldType), [])
theorem plX1_walk : zplain MX1_walk 0 ∧ (zcodeW MX1_walk ∈ lw_all ∧ Cond.initialized MX1_walk.1.cls ∈ lw_all) := ⟨⟨by decide +kernel, by decide +kernel⟩, q1842, q101⟩
noncomputable def f_X1_walk (x0 : Int) (σ : zM) : Option zO :=
  (zgf σ 106 x0).bind fun v1 =>
  zcvT (f_X1_need v1 σ) (fun n a σ2 => some (n + 1, zr a, σ2)) fun σ2 =>
  (zpf σ2 110 x0 0).bind fun σ3 =>
  (zgf σ3 109 x0).bind fun v4 =>
  (zpa σ3 101 v4 0 0).bind fun σ5 =>
  some (0, ((3, 0) : zV), σ5)
theorem c_X1_walk {g : zG} {lv : Nat} {x0 : Int} {σ : zM} {out : zO} (h : f_X1_walk x0 σ = some out) : Cj g (lv + 7) MX1_walk [zr x0] σ out := by
  refine cj_go (ls := [(0, zr x0)]) (by decide) (Nat.le_of_ble_eq_true rfl) rfl (zgen h (fun r hk => ?_))
  unfold f_X1_walk
  refine zst_ (gj_aload_n 0 (pc := 0) dX1_walk_0 rfl) ?_
  refine gb_get (pc := 1) fl106 dX1_walk_1 q847 (Or.inl rfl) (fun v1 => ?_)
  refine gb_callVT (pc := 4) (as := [zi v1]) (rest := []) (zCl.of (zLk_S (M := MX1_walk) plX1_need.1 rfl dX1_walk_4 q1536 q1537 q101 q1538) plX1_need (Nat.le_of_ble_eq_true rfl) (fun h => c_X1_need h)) (fun n a s0 h => by cases h; exact Or.inl ⟨rfl, hk⟩) (fun σ2 => ?_)
  refine zst_ (gj_aload_n 0 (pc := 7) dX1_walk_7 rfl) ?_
  refine zst_ (gj_iconst (pc := 8) dX1_walk_8 (by decide)) ?_
  refine gb_put (pc := 9) fl110 fr110 dX1_walk_9 q851 (Or.inl rfl) (fun σ3 => ?_)
  refine zst_ (gj_aload_n 0 (pc := 12) dX1_walk_12 rfl) ?_
  refine gb_get (pc := 13) fl109 dX1_walk_13 q850 (Or.inl rfl) (fun v4 => ?_)
  refine zst_ (gj_iconst (pc := 16) dX1_walk_16 (by decide)) ?_
  refine zst_ (gj_iconst (pc := 17) dX1_walk_17 (by decide)) ?_
  refine gb_iast (pc := 18) dX1_walk_18 (fun σ5 => ?_)
  intro h
  cases h
  have hk : (0, ((3, 0) : zV), σ5) = out := hk
  subst hk
  exact gj_vret (pc := 19) dX1_walk_19 rfl
theorem q1838 : (Jvm.Cond.codeWith ({ cls := "LassoFinderLaw", name := "walk", desc := "(LLassoFinder;)I" } : Jvm.MethodName) method_7_code (2 : Nat) (Option.some Jvm.ClassFile.FieldType.int) [((0 : Nat), (4 : Nat), (7 : Nat), (20 : Nat))]) ∈ lw_all := lw_g (lw_at lw_m8 58 rfl) rfl
theorem q1839 : (Jvm.Cond.methodLink "LassoFinderLaw" (32 : Nat) ({ cls := "LassoFinder", name := "walk", desc := "()V" } : Jvm.MethodName)) ∈ lw_all := lw_g (lw_at lw_m8 59 rfl) rfl
theorem q1840 : (Jvm.Cond.instanceMethod ({ cls := "LassoFinder", name := "walk", desc := "()V" } : Jvm.MethodName)) ∈ lw_all := lw_g (lw_at lw_m8 60 rfl) rfl
theorem q1841 : (Jvm.Cond.selects "LassoFinder" ({ cls := "LassoFinder", name := "walk", desc := "()V" } : Jvm.MethodName) ({ cls := "LassoFinder", name := "walk", desc := "()V" } : Jvm.MethodName)) ∈ lw_all := lw_g (lw_at lw_m8 61 rfl) rfl
abbrev cX0_walk : ByteArray := method_7_code
def yX0_walk : MethodName := ⟨RX0, "walk", "(LLassoFinder;)I"⟩
theorem dX0_walk_0 : decode cX0_walk 0 = .ok (.aload_n 0, 1) := by decide +kernel
theorem dX0_walk_1 : decode cX0_walk 1 = .ok (.invokevirtual 32, 3) := by decide +kernel
theorem dX0_walk_4 : decode cX0_walk 4 = .ok (.goto 6, 3) := by decide +kernel
theorem dX0_walk_7 : decode cX0_walk 7 = .ok (.astore_n 1, 1) := by decide +kernel
theorem dX0_walk_8 : decode cX0_walk 8 = .ok (.iconst 1, 1) := by decide +kernel
theorem dX0_walk_9 : decode cX0_walk 9 = .ok (.ireturn, 1) := by decide +kernel
theorem dX0_walk_10 : decode cX0_walk 10 = .ok (.iconst 0, 1) := by decide +kernel
theorem dX0_walk_11 : decode cX0_walk 11 = .ok (.ireturn, 1) := by decide +kernel
abbrev MX0_walk : zT := (yX0_walk, cX0_walk, 2, (Option.some Jvm.ClassFile.FieldType.int), [(0, 4, 7, 20)])
theorem plX0_walk : zplain MX0_walk 1 ∧ (zcodeW MX0_walk ∈ lw_all ∧ Cond.initialized MX0_walk.1.cls ∈ lw_all) := ⟨⟨by decide +kernel, by decide +kernel⟩, q1838, q100⟩
noncomputable def f_X0_walk_7 (t0 : Int) (σ : zM) : Option zO :=
  some (0, zi 1, σ)
theorem w_X0_walk_7 {g : zG} {lv : Nat} {out : zO} (t0 : Int) (σ : zM) {r : zO} (h : f_X0_walk_7 t0 σ = some r) (hk : (fun o : zO => o = out) r) : Gj g MX0_walk (lv + 8) 7 [] [zr t0] σ out := by
  revert h
  unfold f_X0_walk_7
  refine zst_ (gj_astore_n (pc := 7) (ls' := [(1, zr t0)]) dX0_walk_7 (by decide) rfl) ?_
  refine zst_ (gj_iconst (pc := 8) dX0_walk_8 (by decide)) ?_
  intro h
  cases h
  have hk : (0, zi 1, σ) = out := hk
  subst hk
  exact gj_ret (pc := 9) (t := .int) dX0_walk_9 rfl ⟨rfl, rfl⟩ (fun h => h)
noncomputable def f_X0_walk (x0 : Int) (σ : zM) : Option zO :=
  zgd (zis σ 2 x0) <|
  zcvT (f_X1_walk x0 σ) (fun n a σ1 => if n = 1 then f_X0_walk_7 a σ1 else none) fun σ1 =>
  some (0, zi 0, σ1)
theorem c_X0_walk {g : zG} {lv : Nat} {x0 : Int} {σ : zM} {out : zO} (h : f_X0_walk x0 σ = some out) : Cj g (lv + 8) MX0_walk [zr x0] σ out := by
  refine cj_go (ls := [(0, zr x0)]) (by decide) (Nat.le_of_ble_eq_true rfl) rfl (zgen h (fun r hk => ?_))
  unfold f_X0_walk
  refine zst_ (gj_aload_n 0 (pc := 0) dX0_walk_0 rfl) ?_
  refine gb_gd (fun hb => ?_)
  refine gb_callVT (pc := 1) (as := [zr x0]) (rest := []) (zCl.of (zLk_V (M := MX0_walk) (ci := 1) (r := (RX1, TX1, 12)) plX1_walk.1 rfl rfl (zisE hb).1 (zisE hb).2 dX0_walk_1 q1839 q1840 q1841 q1842) plX1_walk (Nat.le_of_ble_eq_true rfl) (fun h => c_X1_walk h)) (fun n a s0 => gb_hn (fun h => Or.inr ⟨[], (0, 4, 7, 20), [], rfl, (fun z hz => by cases hz), ⟨by decide, by decide⟩, by decide, q1528, gj_sub [] rfl (w_X0_walk_7 a s0 h hk)⟩) ((fun h => by cases h))) (fun σ1 => ?_)
  refine zst_ (gj_goto 10 (pc := 4) dX0_walk_4 (by decide)) ?_
  refine zst_ (gj_iconst (pc := 10) dX0_walk_10 (by decide)) ?_
  intro h
  cases h
  have hk : (0, zi 0, σ1) = out := hk
  subst hk
  exact gj_ret (pc := 11) (t := .int) dX0_walk_11 rfl ⟨rfl, rfl⟩ (fun h => h)
theorem q920 : (Jvm.Cond.code ({ cls := "LassoFinder", name := "steps", desc := "()I" } : Jvm.MethodName) prog_1_method_15_code (1 : Nat) (Option.some Jvm.ClassFile.FieldType.int)) ∈ lw_all := lw_g (lw_at lw_m4 100 rfl) rfl
theorem q921 : (Jvm.Cond.methodLink "LassoFinder" (169 : Nat) ({ cls := "LassoFinder$Model", name := "stepsOf", desc := "(I)I" } : Jvm.MethodName)) ∈ lw_all := lw_g (lw_at lw_m4 101 rfl) rfl
abbrev cX1_steps : ByteArray := prog_1_method_15_code
def yX1_steps : MethodName := ⟨RX1, "steps", "()I"⟩
theorem dX1_steps_0 : decode cX1_steps 0 = .ok (.aload_n 0, 1) := by decide +kernel
theorem dX1_steps_1 : decode cX1_steps 1 = .ok (.getfield 56, 3) := by decide +kernel
theorem dX1_steps_4 : decode cX1_steps 4 = .ok (.ifCond .ge 7, 3) := by decide +kernel
theorem dX1_steps_7 : decode cX1_steps 7 = .ok (.iconst 0, 1) := by decide +kernel
theorem dX1_steps_8 : decode cX1_steps 8 = .ok (.goto 19, 3) := by decide +kernel
theorem dX1_steps_11 : decode cX1_steps 11 = .ok (.aload_n 0, 1) := by decide +kernel
theorem dX1_steps_12 : decode cX1_steps 12 = .ok (.getfield 19, 3) := by decide +kernel
theorem dX1_steps_15 : decode cX1_steps 15 = .ok (.aload_n 0, 1) := by decide +kernel
theorem dX1_steps_16 : decode cX1_steps 16 = .ok (.getfield 52, 3) := by decide +kernel
theorem dX1_steps_19 : decode cX1_steps 19 = .ok (.aload_n 0, 1) := by decide +kernel
theorem dX1_steps_20 : decode cX1_steps 20 = .ok (.getfield 56, 3) := by decide +kernel
theorem dX1_steps_23 : decode cX1_steps 23 = .ok (.iaload, 1) := by decide +kernel
theorem dX1_steps_24 : decode cX1_steps 24 = .ok (.invokevirtual 169, 3) := by decide +kernel
theorem dX1_steps_27 : decode cX1_steps 27 = .ok (.ireturn, 1) := by decide +kernel
abbrev MX1_steps : zT := (yX1_steps, cX1_steps, 1, (Option.some Jvm.ClassFile.FieldType.int), [])
theorem plX1_steps : zplain MX1_steps 0 ∧ (zcodeW MX1_steps ∈ lw_all ∧ Cond.initialized MX1_steps.1.cls ∈ lw_all) := ⟨⟨by decide +kernel, by decide +kernel⟩, q920, q101⟩
noncomputable def f_X1_steps_27 (t0 : Int) (σ : zM) : Option zO :=
  some (0, zi t0, σ)
theorem w_X1_steps_27 {g : zG} {lv : Nat} {out : zO} (t0 : Int) (σ : zM) {r : zO} (h : f_X1_steps_27 t0 σ = some r) (hk : (fun o : zO => o = out) r) : Gj g MX1_steps (lv + 1) 27 [] [zi t0] σ out := by
  revert h
  unfold f_X1_steps_27
  intro h
  cases h
  have hk : (0, zi t0, σ) = out := hk
  subst hk
  exact gj_ret (pc := 27) (t := .int) dX1_steps_27 rfl ⟨rfl, rfl⟩ (fun h => h)
noncomputable def f_X1_steps (x0 : Int) (σ : zM) : Option zO :=
  (zgf σ 110 x0).bind fun v1 =>
  if 0 ≤ v1 then
    (zgf σ 101 x0).bind fun v2 =>
    (zgf σ 109 x0).bind fun v3 =>
    (zgf σ 110 x0).bind fun v4 =>
    (zga σ 101 v3 v4).bind fun v5 =>
    zgd (zis σ 3 v2) <|
    zci (f_X2_stepsOf v2 v5 σ) fun v6 σ7 =>
    f_X1_steps_27 v6 σ7
  else
    f_X1_steps_27 0 σ
theorem c_X1_steps {g : zG} {lv : Nat} {x0 : Int} {σ : zM} {out : zO} (h : f_X1_steps x0 σ = some out) : Cj g (lv + 1) MX1_steps [zr x0] σ out := by
  refine cj_go (ls := [(0, zr x0)]) (by decide) (Nat.le_of_ble_eq_true rfl) rfl (zgen h (fun r hk => ?_))
  unfold f_X1_steps
  refine zst_ (gj_aload_n 0 (pc := 0) dX1_steps_0 rfl) ?_
  refine gb_get (pc := 1) fl110 dX1_steps_1 q851 (Or.inl rfl) (fun v1 => ?_)
  refine gb_if (gj_if_ge 11 (pc := 4) dX1_steps_4 (by decide)) ?_ ?_
  · refine zst_ (gj_aload_n 0 (pc := 11) dX1_steps_11 rfl) ?_
    refine gb_get (pc := 12) fl101 dX1_steps_12 q842 (Or.inl rfl) (fun v2 => ?_)
    refine zst_ (gj_aload_n 0 (pc := 15) dX1_steps_15 rfl) ?_
    refine gb_get (pc := 16) fl109 dX1_steps_16 q850 (Or.inl rfl) (fun v3 => ?_)
    refine zst_ (gj_aload_n 0 (pc := 19) dX1_steps_19 rfl) ?_
    refine gb_get (pc := 20) fl110 dX1_steps_20 q851 (Or.inl rfl) (fun v4 => ?_)
    refine gb_iald (pc := 23) dX1_steps_23 (fun v5 => ?_)
    refine gb_gd (fun hb => ?_)
    refine gb_callI (pc := 24) (as := [zr v2, zi v5]) (rest := []) (zCl.of (zLk_V (M := MX1_steps) (ci := 2) (r := (RX2, TX2, 22)) plX2_stepsOf.1 rfl rfl (zisE hb).1 (zisE hb).2 dX1_steps_24 q921 q922 q923 q924) plX2_stepsOf (Nat.le_of_ble_eq_true rfl) (fun h => c_X2_stepsOf h)) (fun v6 σ7 => ?_)
    refine zst_ (gj_sub [] rfl) ?_
    exact fun h => w_X1_steps_27 v6 σ7 h hk
  · refine zst_ (gj_iconst (pc := 7) dX1_steps_7 (by decide)) ?_
    refine zst_ (gj_goto 27 (pc := 8) dX1_steps_8 (by decide)) ?_
    refine zst_ (gj_sub [] rfl) ?_
    exact fun h => w_X1_steps_27 0 σ h hk
theorem q918 : (Jvm.Cond.instanceMethod ({ cls := "LassoFinder", name := "steps", desc := "()I" } : Jvm.MethodName)) ∈ lw_all := lw_g (lw_at lw_m4 98 rfl) rfl
theorem q919 : (Jvm.Cond.selects "LassoFinder" ({ cls := "LassoFinder", name := "steps", desc := "()I" } : Jvm.MethodName) ({ cls := "LassoFinder", name := "steps", desc := "()I" } : Jvm.MethodName)) ∈ lw_all := lw_g (lw_at lw_m4 99 rfl) rfl
theorem q1849 : (Jvm.Cond.code ({ cls := "LassoFinder", name := "go", desc := "(I)I" } : Jvm.MethodName) prog_1_method_16_code (3 : Nat) (Option.some Jvm.ClassFile.FieldType.int)) ∈ lw_all := lw_g (lw_at lw_m8 69 rfl) rfl
theorem q1850 : (Jvm.Cond.methodLink "LassoFinder" (172 : Nat) ({ cls := "LassoFinder", name := "steps", desc := "()I" } : Jvm.MethodName)) ∈ lw_all := lw_g (lw_at lw_m8 70 rfl) rfl
theorem q1851 : (Jvm.Cond.classLink "LassoFinder" (175 : Nat) "java/lang/UnsupportedOperationException") ∈ lw_all := lw_g (lw_at lw_m8 71 rfl) rfl
theorem q1852 : (Jvm.Cond.methodLink "LassoFinder" (177 : Nat) ({ cls := "java/lang/UnsupportedOperationException", name := "<init>", desc := "()V" } : Jvm.MethodName)) ∈ lw_all := lw_g (lw_at lw_m8 72 rfl) rfl
abbrev cX1_go : ByteArray := prog_1_method_16_code
def yX1_go : MethodName := ⟨RX1, "go", "(I)I"⟩
theorem dX1_go_0 : decode cX1_go 0 = .ok (.aload_n 0, 1) := by decide +kernel
theorem dX1_go_1 : decode cX1_go 1 = .ok (.getfield 56, 3) := by decide +kernel
theorem dX1_go_4 : decode cX1_go 4 = .ok (.ifCond .lt 7, 3) := by decide +kernel
theorem dX1_go_7 : decode cX1_go 7 = .ok (.iconst 1, 1) := by decide +kernel
theorem dX1_go_8 : decode cX1_go 8 = .ok (.goto 4, 3) := by decide +kernel
theorem dX1_go_11 : decode cX1_go 11 = .ok (.iconst 0, 1) := by decide +kernel
theorem dX1_go_12 : decode cX1_go 12 = .ok (.invokestatic 122, 3) := by decide +kernel
theorem dX1_go_15 : decode cX1_go 15 = .ok (.iload_n 1, 1) := by decide +kernel
theorem dX1_go_16 : decode cX1_go 16 = .ok (.aload_n 0, 1) := by decide +kernel
theorem dX1_go_17 : decode cX1_go 17 = .ok (.invokevirtual 172, 3) := by decide +kernel
theorem dX1_go_20 : decode cX1_go 20 = .ok (.invokestatic 149, 3) := by decide +kernel
theorem dX1_go_23 : decode cX1_go 23 = .ok (.aload_n 0, 1) := by decide +kernel
theorem dX1_go_24 : decode cX1_go 24 = .ok (.getfield 56, 3) := by decide +kernel
theorem dX1_go_27 : decode cX1_go 27 = .ok (.bipush 60, 2) := by decide +kernel
theorem dX1_go_29 : decode cX1_go 29 = .ok (.if_icmp .ne 11, 3) := by decide +kernel
theorem dX1_go_32 : decode cX1_go 32 = .ok (.new 175, 3) := by decide +kernel
theorem dX1_go_35 : decode cX1_go 35 = .ok (.dup, 1) := by decide +kernel
theorem dX1_go_36 : decode cX1_go 36 = .ok (.invokespecial 177, 3) := by decide +kernel
theorem dX1_go_39 : decode cX1_go 39 = .ok (.athrow, 1) := by decide +kernel
theorem dX1_go_40 : decode cX1_go 40 = .ok (.aload_n 0, 1) := by decide +kernel
theorem dX1_go_41 : decode cX1_go 41 = .ok (.getfield 19, 3) := by decide +kernel
theorem dX1_go_44 : decode cX1_go 44 = .ok (.getfield 156, 3) := by decide +kernel
theorem dX1_go_47 : decode cX1_go 47 = .ok (.aload_n 0, 1) := by decide +kernel
theorem dX1_go_48 : decode cX1_go 48 = .ok (.getfield 52, 3) := by decide +kernel
theorem dX1_go_51 : decode cX1_go 51 = .ok (.aload_n 0, 1) := by decide +kernel
theorem dX1_go_52 : decode cX1_go 52 = .ok (.getfield 56, 3) := by decide +kernel
theorem dX1_go_55 : decode cX1_go 55 = .ok (.iaload, 1) := by decide +kernel
theorem dX1_go_56 : decode cX1_go 56 = .ok (.iaload, 1) := by decide +kernel
theorem dX1_go_57 : decode cX1_go 57 = .ok (.iload_n 1, 1) := by decide +kernel
theorem dX1_go_58 : decode cX1_go 58 = .ok (.iadd, 1) := by decide +kernel
theorem dX1_go_59 : decode cX1_go 59 = .ok (.istore_n 2, 1) := by decide +kernel
theorem dX1_go_60 : decode cX1_go 60 = .ok (.aload_n 0, 1) := by decide +kernel
theorem dX1_go_61 : decode cX1_go 61 = .ok (.dup, 1) := by decide +kernel
theorem dX1_go_62 : decode cX1_go 62 = .ok (.getfield 56, 3) := by decide +kernel
theorem dX1_go_65 : decode cX1_go 65 = .ok (.iconst 1, 1) := by decide +kernel
theorem dX1_go_66 : decode cX1_go 66 = .ok (.iadd, 1) := by decide +kernel
theorem dX1_go_67 : decode cX1_go 67 = .ok (.putfield 56, 3) := by decide +kernel
theorem dX1_go_70 : decode cX1_go 70 = .ok (.aload_n 0, 1) := by decide +kernel
theorem dX1_go_71 : decode cX1_go 71 = .ok (.getfield 52, 3) := by decide +kernel
theorem dX1_go_74 : decode cX1_go 74 = .ok (.aload_n 0, 1) := by decide +kernel
theorem dX1_go_75 : decode cX1_go 75 = .ok (.getfield 56, 3) := by decide +kernel
theorem dX1_go_78 : decode cX1_go 78 = .ok (.aload_n 0, 1) := by decide +kernel
theorem dX1_go_79 : decode cX1_go 79 = .ok (.getfield 19, 3) := by decide +kernel
theorem dX1_go_82 : decode cX1_go 82 = .ok (.getfield 153, 3) := by decide +kernel
theorem dX1_go_85 : decode cX1_go 85 = .ok (.iload_n 2, 1) := by decide +kernel
theorem dX1_go_86 : decode cX1_go 86 = .ok (.iaload, 1) := by decide +kernel
theorem dX1_go_87 : decode cX1_go 87 = .ok (.iastore, 1) := by decide +kernel
theorem dX1_go_88 : decode cX1_go 88 = .ok (.aload_n 0, 1) := by decide +kernel
theorem dX1_go_89 : decode cX1_go 89 = .ok (.getfield 19, 3) := by decide +kernel
theorem dX1_go_92 : decode cX1_go 92 = .ok (.getfield 163, 3) := by decide +kernel
theorem dX1_go_95 : decode cX1_go 95 = .ok (.iload_n 2, 1) := by decide +kernel
theorem dX1_go_96 : decode cX1_go 96 = .ok (.iaload, 1) := by decide +kernel
theorem dX1_go_97 : decode cX1_go 97 = .ok (.ireturn, 1) := by decide +kernel
abbrev MX1_go : zT := (yX1_go, cX1_go, 3, (Option.some Jvm.ClassFile.FieldType.int), [])
theorem plX1_go : zplain MX1_go 1 ∧ (zcodeW MX1_go ∈ lw_all ∧ Cond.initialized MX1_go.1.cls ∈ lw_all) := ⟨⟨by decide +kernel, by decide +kernel⟩, q1849, q101⟩
noncomputable def f_X1_go_12 (x0 x1 t0 : Int) (σ : zM) : Option zO :=
  zcvT (f_X1_need t0 σ) (fun n a σ1 => some (n + 1, zr a, σ1)) fun σ1 =>
  zgd (zis σ1 2 x0) <|
  zci (f_X1_steps x0 σ1) fun v2 σ3 =>
  zcvT (f_X1_within x1 v2 σ3) (fun n a σ4 => some (n + 1, zr a, σ4)) fun σ4 =>
  (zgf σ4 110 x0).bind fun v5 =>
  if v5 ≠ 60 then
    (zgf σ4 101 x0).bind fun v6 =>
    (zgf σ4 215 v6).bind fun v7 =>
    (zgf σ4 109 x0).bind fun v8 =>
    (zgf σ4 110 x0).bind fun v9 =>
    (zga σ4 101 v8 v9).bind fun v10 =>
    (zga σ4 101 v7 v10).bind fun v11 =>
    zlet ((zadd v11 x1)) fun y12 =>
    (zgf σ4 110 x0).bind fun v13 =>
    (zpf σ4 110 x0 (zadd v13 1)).bind fun σ14 =>
    (zgf σ14 109 x0).bind fun v15 =>
    (zgf σ14 110 x0).bind fun v16 =>
    (zgf σ14 101 x0).bind fun v17 =>
    (zgf σ14 217 v17).bind fun v18 =>
    (zga σ14 101 v18 y12).bind fun v19 =>
    (zpa σ14 101 v15 v16 v19).bind fun σ20 =>
    (zgf σ20 101 x0).bind fun v21 =>
    (zgf σ20 218 v21).bind fun v22 =>
    (zga σ20 101 v22 y12).bind fun v23 =>
    some (0, zi v23, σ20)
  else
    (znX σ4 53).bind fun σ24 =>
    zgd (zis σ24 53 (↑(zN σ4) : Int)) <|
    some (3, zr (↑(zN σ4) : Int), σ24)
theorem w_X1_go_12 {g : zG} {lv : Nat} {out : zO} (x0 x1 t0 : Int) (σ : zM) {r : zO} (h : f_X1_go_12 x0 x1 t0 σ = some r) (hk : (fun o : zO => o = out) r) : Gj g MX1_go (lv + 7) 12 [(0, zr x0), (1, zi x1)] [zi t0] σ out := by
  revert h
  unfold f_X1_go_12
  refine gb_callVT (pc := 12) (as := [zi t0]) (rest := []) (zCl.of (zLk_S (M := MX1_go) plX1_need.1 rfl dX1_go_12 q1536 q1537 q101 q1538) plX1_need (Nat.le_of_ble_eq_true rfl) (fun h => c_X1_need h)) (fun n a s0 h => by cases h; exact Or.inl ⟨rfl, hk⟩) (fun σ1 => ?_)
  refine zst_ (gj_iload_n 1 (pc := 15) dX1_go_15 rfl) ?_
  refine zst_ (gj_aload_n 0 (pc := 16) dX1_go_16 rfl) ?_
  refine gb_gd (fun hb => ?_)
  refine gb_callI (pc := 17) (as := [zr x0]) (rest := [zi x1]) (zCl.of (zLk_V (M := MX1_go) (ci := 1) (r := (RX1, TX1, 12)) plX1_steps.1 rfl rfl (zisE hb).1 (zisE hb).2 dX1_go_17 q1850 q918 q919 q920) plX1_steps (Nat.le_of_ble_eq_true rfl) (fun h => c_X1_steps h)) (fun v2 σ3 => ?_)
  refine gb_callVT (pc := 20) (as := [zi x1, zi v2]) (rest := []) (zCl.of (zLk_S (M := MX1_go) plX1_within.1 rfl dX1_go_20 q1814 q1815 q101 q1816) plX1_within (Nat.le_of_ble_eq_true rfl) (fun h => c_X1_within h)) (fun n a s0 h => by cases h; exact Or.inl ⟨rfl, hk⟩) (fun σ4 => ?_)
  refine zst_ (gj_aload_n 0 (pc := 23) dX1_go_23 rfl) ?_
  refine gb_get (pc := 24) fl110 dX1_go_24 q851 (Or.inl rfl) (fun v5 => ?_)
  refine zst_ (gj_bipush (pc := 27) dX1_go_27 ⟨rfl, by decide⟩) ?_
  refine gb_if (gj_icmp_ne 40 (pc := 29) dX1_go_29 (by decide)) ?_ ?_
  · refine zst_ (gj_aload_n 0 (pc := 40) dX1_go_40 rfl) ?_
    refine gb_get (pc := 41) fl101 dX1_go_41 q842 (Or.inl rfl) (fun v6 => ?_)
    refine gb_getNe (pc := 44) fl215 dX1_go_44 q302 (Or.inl rfl) (fun v7 => ?_)
    refine zst_ (gj_aload_n 0 (pc := 47) dX1_go_47 rfl) ?_
    refine gb_get (pc := 48) fl109 dX1_go_48 q850 (Or.inl rfl) (fun v8 => ?_)
    refine zst_ (gj_aload_n 0 (pc := 51) dX1_go_51 rfl) ?_
    refine gb_get (pc := 52) fl110 dX1_go_52 q851 (Or.inl rfl) (fun v9 => ?_)
    refine gb_iald (pc := 55) dX1_go_55 (fun v10 => ?_)
    refine gb_iald (pc := 56) dX1_go_56 (fun v11 => ?_)
    refine zst_ (gj_iload_n 1 (pc := 57) dX1_go_57 rfl) ?_
    refine zst_ (gj_iadd (pc := 58) dX1_go_58) ?_
    refine gb_let (fun y12 => ?_)
    refine zst_ (gj_istore_n (pc := 59) (ls' := [(2, zi y12), (0, zr x0), (1, zi x1)]) dX1_go_59 (by decide) rfl) ?_
    refine zst_ (gj_aload_n 1 (pc := 60) dX1_go_60 rfl) ?_
    refine zst_ (gj_dup (pc := 61) dX1_go_61 rfl) ?_
    refine gb_get (pc := 62) fl110 dX1_go_62 q851 (Or.inl rfl) (fun v13 => ?_)
    refine zst_ (gj_iconst (pc := 65) dX1_go_65 (by decide)) ?_
    refine zst_ (gj_iadd (pc := 66) dX1_go_66) ?_
    refine gb_put (pc := 67) fl110 fr110 dX1_go_67 q851 (Or.inl rfl) (fun σ14 => ?_)
    refine zst_ (gj_aload_n 1 (pc := 70) dX1_go_70 rfl) ?_
    refine gb_get (pc := 71) fl109 dX1_go_71 q850 (Or.inl rfl) (fun v15 => ?_)
    refine zst_ (gj_aload_n 1 (pc := 74) dX1_go_74 rfl) ?_
    refine gb_get (pc := 75) fl110 dX1_go_75 q851 (Or.inl rfl) (fun v16 => ?_)
    refine zst_ (gj_aload_n 1 (pc := 78) dX1_go_78 rfl) ?_
    refine gb_get (pc := 79) fl101 dX1_go_79 q842 (Or.inl rfl) (fun v17 => ?_)
    refine gb_getNe (pc := 82) fl217 dX1_go_82 q307 (Or.inl rfl) (fun v18 => ?_)
    refine zst_ (gj_iload_n 0 (pc := 85) dX1_go_85 rfl) ?_
    refine gb_iald (pc := 86) dX1_go_86 (fun v19 => ?_)
    refine gb_iast (pc := 87) dX1_go_87 (fun σ20 => ?_)
    refine zst_ (gj_aload_n 1 (pc := 88) dX1_go_88 rfl) ?_
    refine gb_get (pc := 89) fl101 dX1_go_89 q842 (Or.inl rfl) (fun v21 => ?_)
    refine gb_getNe (pc := 92) fl218 dX1_go_92 q309 (Or.inl rfl) (fun v22 => ?_)
    refine zst_ (gj_iload_n 0 (pc := 95) dX1_go_95 rfl) ?_
    refine gb_iald (pc := 96) dX1_go_96 (fun v23 => ?_)
    intro h
    cases h
    have hk : (0, zi v23, σ20) = out := hk
    subst hk
    exact gj_ret (pc := 97) (t := .int) dX1_go_97 rfl ⟨rfl, rfl⟩ (fun h => h)
  · refine gb_exc (pc := 32) (k := 53) ⟨by decide, by decide⟩ (by omega) (Nat.le_of_ble_eq_true rfl) dX1_go_32 dX1_go_35 dX1_go_36 q1851 q1852 (fun σ24 => ?_)
    refine gb_gd (fun hb => ?_)
    intro h
    cases h
    have hk : (3, zr (↑(zN σ4) : Int), σ24) = out := hk
    subst hk
    exact gj_athrow (pc := 39) (zisE hb).1 (zisE hb).2 (by decide) dX1_go_39 rfl
noncomputable def f_X1_go (x0 x1 : Int) (σ : zM) : Option zO :=
  (zgf σ 110 x0).bind fun v1 =>
  if v1 < 0 then
    f_X1_go_12 x0 x1 0 σ
  else
    f_X1_go_12 x0 x1 1 σ
theorem c_X1_go {g : zG} {lv : Nat} {x0 x1 : Int} {σ : zM} {out : zO} (h : f_X1_go x0 x1 σ = some out) : Cj g (lv + 7) MX1_go [zr x0, zi x1] σ out := by
  refine cj_go (ls := [(0, zr x0), (1, zi x1)]) (by decide) (Nat.le_of_ble_eq_true rfl) rfl (zgen h (fun r hk => ?_))
  unfold f_X1_go
  refine zst_ (gj_aload_n 0 (pc := 0) dX1_go_0 rfl) ?_
  refine gb_get (pc := 1) fl110 dX1_go_1 q851 (Or.inl rfl) (fun v1 => ?_)
  refine gb_if (gj_if_lt 11 (pc := 4) dX1_go_4 (by decide)) ?_ ?_
  · refine zst_ (gj_iconst (pc := 11) dX1_go_11 (by decide)) ?_
    exact fun h => w_X1_go_12 x0 x1 0 σ h hk
  · refine zst_ (gj_iconst (pc := 7) dX1_go_7 (by decide)) ?_
    refine zst_ (gj_goto 12 (pc := 8) dX1_go_8 (by decide)) ?_
    exact fun h => w_X1_go_12 x0 x1 1 σ h hk
theorem q1845 : (Jvm.Cond.codeWith ({ cls := "LassoFinderLaw", name := "go", desc := "(LLassoFinder;I[J)I" } : Jvm.MethodName) method_8_code (4 : Nat) (Option.some Jvm.ClassFile.FieldType.int) [((0 : Nat), (9 : Nat), (12 : Nat), (20 : Nat)), ((0 : Nat), (9 : Nat), (15 : Nat), (30 : Nat)), ((0 : Nat), (9 : Nat), (18 : Nat), (15 : Nat))]) ∈ lw_all := lw_g (lw_at lw_m8 65 rfl) rfl
theorem q1846 : (Jvm.Cond.methodLink "LassoFinderLaw" (35 : Nat) ({ cls := "LassoFinder", name := "go", desc := "(I)I" } : Jvm.MethodName)) ∈ lw_all := lw_g (lw_at lw_m8 66 rfl) rfl
theorem q1847 : (Jvm.Cond.instanceMethod ({ cls := "LassoFinder", name := "go", desc := "(I)I" } : Jvm.MethodName)) ∈ lw_all := lw_g (lw_at lw_m8 67 rfl) rfl
theorem q1848 : (Jvm.Cond.selects "LassoFinder" ({ cls := "LassoFinder", name := "go", desc := "(I)I" } : Jvm.MethodName) ({ cls := "LassoFinder", name := "go", desc := "(I)I" } : Jvm.MethodName)) ∈ lw_all := lw_g (lw_at lw_m8 68 rfl) rfl
abbrev cX0_go : ByteArray := method_8_code
def yX0_go : MethodName := ⟨RX0, "go", "(LLassoFinder;I[J)I"⟩
theorem dX0_go_0 : decode cX0_go 0 = .ok (.aload_n 2, 1) := by decide +kernel
theorem dX0_go_1 : decode cX0_go 1 = .ok (.iconst 0, 1) := by decide +kernel
theorem dX0_go_2 : decode cX0_go 2 = .ok (.aload_n 0, 1) := by decide +kernel
theorem dX0_go_3 : decode cX0_go 3 = .ok (.iload_n 1, 1) := by decide +kernel
theorem dX0_go_4 : decode cX0_go 4 = .ok (.invokevirtual 35, 3) := by decide +kernel
theorem dX0_go_7 : decode cX0_go 7 = .ok (.i2l, 1) := by decide +kernel
theorem dX0_go_8 : decode cX0_go 8 = .ok (.lastore, 1) := by decide +kernel
theorem dX0_go_9 : decode cX0_go 9 = .ok (.goto 12, 3) := by decide +kernel
theorem dX0_go_12 : decode cX0_go 12 = .ok (.astore_n 3, 1) := by decide +kernel
theorem dX0_go_13 : decode cX0_go 13 = .ok (.iconst 1, 1) := by decide +kernel
theorem dX0_go_14 : decode cX0_go 14 = .ok (.ireturn, 1) := by decide +kernel
theorem dX0_go_15 : decode cX0_go 15 = .ok (.astore_n 3, 1) := by decide +kernel
theorem dX0_go_16 : decode cX0_go 16 = .ok (.iconst 2, 1) := by decide +kernel
theorem dX0_go_17 : decode cX0_go 17 = .ok (.ireturn, 1) := by decide +kernel
theorem dX0_go_18 : decode cX0_go 18 = .ok (.astore_n 3, 1) := by decide +kernel
theorem dX0_go_19 : decode cX0_go 19 = .ok (.iconst 3, 1) := by decide +kernel
theorem dX0_go_20 : decode cX0_go 20 = .ok (.ireturn, 1) := by decide +kernel
theorem dX0_go_21 : decode cX0_go 21 = .ok (.iconst 0, 1) := by decide +kernel
theorem dX0_go_22 : decode cX0_go 22 = .ok (.ireturn, 1) := by decide +kernel
abbrev MX0_go : zT := (yX0_go, cX0_go, 4, (Option.some Jvm.ClassFile.FieldType.int), [(0, 9, 12, 20), (0, 9, 15, 30), (0, 9, 18, 15)])
theorem plX0_go : zplain MX0_go 3 ∧ (zcodeW MX0_go ∈ lw_all ∧ Cond.initialized MX0_go.1.cls ∈ lw_all) := ⟨⟨by decide +kernel, by decide +kernel⟩, q1845, q100⟩
noncomputable def f_X0_go_18 (t0 : Int) (σ : zM) : Option zO :=
  some (0, zi 3, σ)
theorem w_X0_go_18 {g : zG} {lv : Nat} {out : zO} (t0 : Int) (σ : zM) {r : zO} (h : f_X0_go_18 t0 σ = some r) (hk : (fun o : zO => o = out) r) : Gj g MX0_go (lv + 8) 18 [] [zr t0] σ out := by
  revert h
  unfold f_X0_go_18
  refine zst_ (gj_astore_n (pc := 18) (ls' := [(3, zr t0)]) dX0_go_18 (by decide) rfl) ?_
  refine zst_ (gj_iconst (pc := 19) dX0_go_19 (by decide)) ?_
  intro h
  cases h
  have hk : (0, zi 3, σ) = out := hk
  subst hk
  exact gj_ret (pc := 20) (t := .int) dX0_go_20 rfl ⟨rfl, rfl⟩ (fun h => h)
noncomputable def f_X0_go_15 (t0 : Int) (σ : zM) : Option zO :=
  some (0, zi 2, σ)
theorem w_X0_go_15 {g : zG} {lv : Nat} {out : zO} (t0 : Int) (σ : zM) {r : zO} (h : f_X0_go_15 t0 σ = some r) (hk : (fun o : zO => o = out) r) : Gj g MX0_go (lv + 8) 15 [] [zr t0] σ out := by
  revert h
  unfold f_X0_go_15
  refine zst_ (gj_astore_n (pc := 15) (ls' := [(3, zr t0)]) dX0_go_15 (by decide) rfl) ?_
  refine zst_ (gj_iconst (pc := 16) dX0_go_16 (by decide)) ?_
  intro h
  cases h
  have hk : (0, zi 2, σ) = out := hk
  subst hk
  exact gj_ret (pc := 17) (t := .int) dX0_go_17 rfl ⟨rfl, rfl⟩ (fun h => h)
noncomputable def f_X0_go_12 (t0 : Int) (σ : zM) : Option zO :=
  some (0, zi 1, σ)
theorem w_X0_go_12 {g : zG} {lv : Nat} {out : zO} (t0 : Int) (σ : zM) {r : zO} (h : f_X0_go_12 t0 σ = some r) (hk : (fun o : zO => o = out) r) : Gj g MX0_go (lv + 8) 12 [] [zr t0] σ out := by
  revert h
  unfold f_X0_go_12
  refine zst_ (gj_astore_n (pc := 12) (ls' := [(3, zr t0)]) dX0_go_12 (by decide) rfl) ?_
  refine zst_ (gj_iconst (pc := 13) dX0_go_13 (by decide)) ?_
  intro h
  cases h
  have hk : (0, zi 1, σ) = out := hk
  subst hk
  exact gj_ret (pc := 14) (t := .int) dX0_go_14 rfl ⟨rfl, rfl⟩ (fun h => h)
noncomputable def f_X0_go (x0 x1 x2 : Int) (σ : zM) : Option zO :=
  zgd (zis σ 2 x0) <|
  zciT (f_X1_go x0 x1 σ) (fun n a σ2 => if n = 1 then f_X0_go_12 a σ2 else if n = 3 then f_X0_go_15 a σ2 else if n = 2 then f_X0_go_18 a σ2 else none) fun v1 σ2 =>
  (zpa σ2 102 x2 0 v1).bind fun σ3 =>
  some (0, zi 0, σ3)
theorem c_X0_go {g : zG} {lv : Nat} {x0 x1 x2 : Int} {σ : zM} {out : zO} (h : f_X0_go x0 x1 x2 σ = some out) : Cj g (lv + 8) MX0_go [zr x0, zi x1, zr x2] σ out := by
  refine cj_go (ls := [(0, zr x0), (1, zi x1), (2, zr x2)]) (by decide) (Nat.le_of_ble_eq_true rfl) rfl (zgen h (fun r hk => ?_))
  unfold f_X0_go
  refine zst_ (gj_aload_n 2 (pc := 0) dX0_go_0 rfl) ?_
  refine zst_ (gj_iconst (pc := 1) dX0_go_1 (by decide)) ?_
  refine zst_ (gj_aload_n 0 (pc := 2) dX0_go_2 rfl) ?_
  refine zst_ (gj_iload_n 1 (pc := 3) dX0_go_3 rfl) ?_
  refine gb_gd (fun hb => ?_)
  refine gb_callIT (pc := 4) (as := [zr x0, zi x1]) (rest := [zi 0, zr x2]) (zCl.of (zLk_V (M := MX0_go) (ci := 1) (r := (RX1, TX1, 12)) plX1_go.1 rfl rfl (zisE hb).1 (zisE hb).2 dX0_go_4 q1846 q1847 q1848 q1849) plX1_go (Nat.le_of_ble_eq_true rfl) (fun h => c_X1_go h)) (fun n a s0 => gb_hn (fun h => Or.inr ⟨[], (0, 9, 12, 20), [(0, 9, 15, 30), (0, 9, 18, 15)], rfl, (fun z hz => by cases hz), ⟨by decide, by decide⟩, by decide, q1528, gj_sub [] rfl (w_X0_go_12 a s0 h hk)⟩) (gb_hn (fun h => Or.inr ⟨[(0, 9, 12, 20)], (0, 9, 15, 30), [(0, 9, 18, 15)], rfl, (List.forall_mem_cons.mpr ⟨Or.inr ⟨by decide, 52, by decide, by decide, by decide, q1528⟩, (fun z hz => by cases hz)⟩), ⟨by decide, by decide⟩, by decide, q1807, gj_sub [] rfl (w_X0_go_15 a s0 h hk)⟩) (gb_hn (fun h => Or.inr ⟨[(0, 9, 12, 20), (0, 9, 15, 30)], (0, 9, 18, 15), [], rfl, (List.forall_mem_cons.mpr ⟨Or.inr ⟨by decide, 52, by decide, by decide, by decide, q1528⟩, (List.forall_mem_cons.mpr ⟨Or.inr ⟨by decide, 54, by decide, by decide, by decide, q1807⟩, (fun z hz => by cases hz)⟩)⟩), ⟨by decide, by decide⟩, by decide, q957, gj_sub [] rfl (w_X0_go_18 a s0 h hk)⟩) ((fun h => by cases h))))) (fun v1 σ2 => ?_)
  refine zst_ (gj_i2l (pc := 7) dX0_go_7) ?_
  refine gb_last (pc := 8) dX0_go_8 (fun σ3 => ?_)
  refine zst_ (gj_goto 21 (pc := 9) dX0_go_9 (by decide)) ?_
  refine zst_ (gj_iconst (pc := 21) dX0_go_21 (by decide)) ?_
  intro h
  cases h
  have hk : (0, zi 0, σ3) = out := hk
  subst hk
  exact gj_ret (pc := 22) (t := .int) dX0_go_22 rfl ⟨rfl, rfl⟩ (fun h => h)
theorem q1868 : (Jvm.Cond.code ({ cls := "LassoFinder$Temporal", name := "sign", desc := "()C" } : Jvm.MethodName) prog_20_method_8_code (1 : Nat) (Option.some Jvm.ClassFile.FieldType.char)) ∈ lw_all := lw_g (lw_at lw_m8 88 rfl) rfl
abbrev cX18_sign : ByteArray := prog_20_method_8_code
def yX18_sign : MethodName := ⟨RX18, "sign", "()C"⟩
theorem dX18_sign_0 : decode cX18_sign 0 = .ok (.aload_n 0, 1) := by decide +kernel
theorem dX18_sign_1 : decode cX18_sign 1 = .ok (.getfield 7, 3) := by decide +kernel
theorem dX18_sign_4 : decode cX18_sign 4 = .ok (.ireturn, 1) := by decide +kernel
abbrev MX18_sign : zT := (yX18_sign, cX18_sign, 1, (Option.some Jvm.ClassFile.FieldType.char), [])
theorem plX18_sign : zplain MX18_sign 0 ∧ (zcodeW MX18_sign ∈ lw_all ∧ Cond.initialized MX18_sign.1.cls ∈ lw_all) := ⟨⟨by decide +kernel, by decide +kernel⟩, q1868, q144⟩
noncomputable def f_X18_sign (x0 : Int) (σ : zM) : Option zO :=
  (zgf σ 1800 x0).bind fun v1 =>
  zgd (zch v1) <|
  some (0, zi v1, σ)
theorem c_X18_sign {g : zG} {lv : Nat} {x0 : Int} {σ : zM} {out : zO} (h : f_X18_sign x0 σ = some out) : Cj g (lv) MX18_sign [zr x0] σ out := by
  refine cj_go (ls := [(0, zr x0)]) (by decide) (Nat.le_of_ble_eq_true rfl) rfl (zgen h (fun r hk => ?_))
  unfold f_X18_sign
  refine zst_ (gj_aload_n 0 (pc := 0) dX18_sign_0 rfl) ?_
  refine gb_get (pc := 1) fl1800 dX18_sign_1 q1640 (Or.inl rfl) (fun v1 => ?_)
  refine gb_gd (fun hb => ?_)
  intro h
  cases h
  have hk : (0, zi v1, σ) = out := hk
  subst hk
  exact gj_ret (pc := 4) (t := .char) dX18_sign_4 rfl ⟨rfl, rfl⟩ (fun _ => zchE hb)
theorem q1873 : (Jvm.Cond.code ({ cls := "LassoFinder$Temporal", name := "number", desc := "()I" } : Jvm.MethodName) prog_20_method_9_code (1 : Nat) (Option.some Jvm.ClassFile.FieldType.int)) ∈ lw_all := lw_g (lw_at lw_m8 93 rfl) rfl
abbrev cX18_number : ByteArray := prog_20_method_9_code
def yX18_number : MethodName := ⟨RX18, "number", "()I"⟩
theorem dX18_number_0 : decode cX18_number 0 = .ok (.aload_n 0, 1) := by decide +kernel
theorem dX18_number_1 : decode cX18_number 1 = .ok (.getfield 13, 3) := by decide +kernel
theorem dX18_number_4 : decode cX18_number 4 = .ok (.ireturn, 1) := by decide +kernel
abbrev MX18_number : zT := (yX18_number, cX18_number, 1, (Option.some Jvm.ClassFile.FieldType.int), [])
theorem plX18_number : zplain MX18_number 0 ∧ (zcodeW MX18_number ∈ lw_all ∧ Cond.initialized MX18_number.1.cls ∈ lw_all) := ⟨⟨by decide +kernel, by decide +kernel⟩, q1873, q144⟩
noncomputable def f_X18_number (x0 : Int) (σ : zM) : Option zO :=
  (zgf σ 1801 x0).bind fun v1 =>
  some (0, zi v1, σ)
theorem c_X18_number {g : zG} {lv : Nat} {x0 : Int} {σ : zM} {out : zO} (h : f_X18_number x0 σ = some out) : Cj g (lv) MX18_number [zr x0] σ out := by
  refine cj_go (ls := [(0, zr x0)]) (by decide) (Nat.le_of_ble_eq_true rfl) rfl (zgen h (fun r hk => ?_))
  unfold f_X18_number
  refine zst_ (gj_aload_n 0 (pc := 0) dX18_number_0 rfl) ?_
  refine gb_get (pc := 1) fl1801 dX18_number_1 q1641 (Or.inl rfl) (fun v1 => ?_)
  intro h
  cases h
  have hk : (0, zi v1, σ) = out := hk
  subst hk
  exact gj_ret (pc := 4) (t := .int) dX18_number_4 rfl ⟨rfl, rfl⟩ (fun h => h)
theorem q1864 : (Jvm.Cond.code ({ cls := "LassoFinder", name := "mean", desc := "(LLassoFinder$Temporal;I[I[I)V" } : Jvm.MethodName) prog_1_method_23_code (7 : Nat) (Option.none : Option Jvm.ClassFile.FieldType)) ∈ lw_all := lw_g (lw_at lw_m8 84 rfl) rfl
theorem q1865 : (Jvm.Cond.methodLink "LassoFinder" (223 : Nat) ({ cls := "LassoFinder$Temporal", name := "sign", desc := "()C" } : Jvm.MethodName)) ∈ lw_all := lw_g (lw_at lw_m8 85 rfl) rfl
theorem q1866 : (Jvm.Cond.instanceMethod ({ cls := "LassoFinder$Temporal", name := "sign", desc := "()C" } : Jvm.MethodName)) ∈ lw_all := lw_g (lw_at lw_m8 86 rfl) rfl
theorem q1867 : (Jvm.Cond.selects "LassoFinder$Temporal" ({ cls := "LassoFinder$Temporal", name := "sign", desc := "()C" } : Jvm.MethodName) ({ cls := "LassoFinder$Temporal", name := "sign", desc := "()C" } : Jvm.MethodName)) ∈ lw_all := lw_g (lw_at lw_m8 87 rfl) rfl
theorem q1869 : (Jvm.Cond.methodLink "LassoFinder" (229 : Nat) ({ cls := "LassoFinder$Temporal", name := "by", desc := "(IIZ)Z" } : Jvm.MethodName)) ∈ lw_all := lw_g (lw_at lw_m8 89 rfl) rfl
theorem q1870 : (Jvm.Cond.methodLink "LassoFinder" (232 : Nat) ({ cls := "LassoFinder$Temporal", name := "number", desc := "()I" } : Jvm.MethodName)) ∈ lw_all := lw_g (lw_at lw_m8 90 rfl) rfl
theorem q1871 : (Jvm.Cond.instanceMethod ({ cls := "LassoFinder$Temporal", name := "number", desc := "()I" } : Jvm.MethodName)) ∈ lw_all := lw_g (lw_at lw_m8 91 rfl) rfl
theorem q1872 : (Jvm.Cond.selects "LassoFinder$Temporal" ({ cls := "LassoFinder$Temporal", name := "number", desc := "()I" } : Jvm.MethodName) ({ cls := "LassoFinder$Temporal", name := "number", desc := "()I" } : Jvm.MethodName)) ∈ lw_all := lw_g (lw_at lw_m8 92 rfl) rfl
abbrev cX1_mean : ByteArray := prog_1_method_23_code
def yX1_mean : MethodName := ⟨RX1, "mean", "(LLassoFinder$Temporal;I[I[I)V"⟩
theorem dX1_mean_0 : decode cX1_mean 0 = .ok (.aload_n 1, 1) := by decide +kernel
theorem dX1_mean_1 : decode cX1_mean 1 = .ok (.invokevirtual 223, 3) := by decide +kernel
theorem dX1_mean_4 : decode cX1_mean 4 = .ok (.bipush 82, 2) := by decide +kernel
theorem dX1_mean_6 : decode cX1_mean 6 = .ok (.if_icmp .eq 12, 3) := by decide +kernel
theorem dX1_mean_9 : decode cX1_mean 9 = .ok (.aload_n 1, 1) := by decide +kernel
theorem dX1_mean_10 : decode cX1_mean 10 = .ok (.invokevirtual 223, 3) := by decide +kernel
theorem dX1_mean_13 : decode cX1_mean 13 = .ok (.bipush 71, 2) := by decide +kernel
theorem dX1_mean_15 : decode cX1_mean 15 = .ok (.if_icmp .ne 7, 3) := by decide +kernel
theorem dX1_mean_18 : decode cX1_mean 18 = .ok (.iconst 1, 1) := by decide +kernel
theorem dX1_mean_19 : decode cX1_mean 19 = .ok (.goto 4, 3) := by decide +kernel
theorem dX1_mean_22 : decode cX1_mean 22 = .ok (.iconst 0, 1) := by decide +kernel
theorem dX1_mean_23 : decode cX1_mean 23 = .ok (.istore 5, 2) := by decide +kernel
theorem dX1_mean_25 : decode cX1_mean 25 = .ok (.aload_n 0, 1) := by decide +kernel
theorem dX1_mean_26 : decode cX1_mean 26 = .ok (.getfield 56, 3) := by decide +kernel
theorem dX1_mean_29 : decode cX1_mean 29 = .ok (.iconst 1, 1) := by decide +kernel
theorem dX1_mean_30 : decode cX1_mean 30 = .ok (.isub, 1) := by decide +kernel
theorem dX1_mean_31 : decode cX1_mean 31 = .ok (.istore 6, 2) := by decide +kernel
theorem dX1_mean_33 : decode cX1_mean 33 = .ok (.iload 6, 2) := by decide +kernel
theorem dX1_mean_35 : decode cX1_mean 35 = .ok (.iload_n 2, 1) := by decide +kernel
theorem dX1_mean_36 : decode cX1_mean 36 = .ok (.if_icmp .lt 26, 3) := by decide +kernel
theorem dX1_mean_39 : decode cX1_mean 39 = .ok (.aload_n 1, 1) := by decide +kernel
theorem dX1_mean_40 : decode cX1_mean 40 = .ok (.aload_n 3, 1) := by decide +kernel
theorem dX1_mean_41 : decode cX1_mean 41 = .ok (.iload 6, 2) := by decide +kernel
theorem dX1_mean_43 : decode cX1_mean 43 = .ok (.iaload, 1) := by decide +kernel
theorem dX1_mean_44 : decode cX1_mean 44 = .ok (.aload 4, 2) := by decide +kernel
theorem dX1_mean_46 : decode cX1_mean 46 = .ok (.iload 6, 2) := by decide +kernel
theorem dX1_mean_48 : decode cX1_mean 48 = .ok (.iaload, 1) := by decide +kernel
theorem dX1_mean_49 : decode cX1_mean 49 = .ok (.iload 5, 2) := by decide +kernel
theorem dX1_mean_51 : decode cX1_mean 51 = .ok (.invokevirtual 229, 3) := by decide +kernel
theorem dX1_mean_54 : decode cX1_mean 54 = .ok (.istore 5, 2) := by decide +kernel
theorem dX1_mean_56 : decode cX1_mean 56 = .ok (.iinc 6 (-1), 3) := by decide +kernel
theorem dX1_mean_59 : decode cX1_mean 59 = .ok (.goto (-26), 3) := by decide +kernel
theorem dX1_mean_62 : decode cX1_mean 62 = .ok (.aload_n 0, 1) := by decide +kernel
theorem dX1_mean_63 : decode cX1_mean 63 = .ok (.getfield 56, 3) := by decide +kernel
theorem dX1_mean_66 : decode cX1_mean 66 = .ok (.iconst 1, 1) := by decide +kernel
theorem dX1_mean_67 : decode cX1_mean 67 = .ok (.isub, 1) := by decide +kernel
theorem dX1_mean_68 : decode cX1_mean 68 = .ok (.istore 6, 2) := by decide +kernel
theorem dX1_mean_70 : decode cX1_mean 70 = .ok (.iload 6, 2) := by decide +kernel
theorem dX1_mean_72 : decode cX1_mean 72 = .ok (.ifCond .lt 45, 3) := by decide +kernel
theorem dX1_mean_75 : decode cX1_mean 75 = .ok (.aload_n 1, 1) := by decide +kernel
theorem dX1_mean_76 : decode cX1_mean 76 = .ok (.aload_n 3, 1) := by decide +kernel
theorem dX1_mean_77 : decode cX1_mean 77 = .ok (.iload 6, 2) := by decide +kernel
theorem dX1_mean_79 : decode cX1_mean 79 = .ok (.iaload, 1) := by decide +kernel
theorem dX1_mean_80 : decode cX1_mean 80 = .ok (.aload 4, 2) := by decide +kernel
theorem dX1_mean_82 : decode cX1_mean 82 = .ok (.iload 6, 2) := by decide +kernel
theorem dX1_mean_84 : decode cX1_mean 84 = .ok (.iaload, 1) := by decide +kernel
theorem dX1_mean_85 : decode cX1_mean 85 = .ok (.iload 5, 2) := by decide +kernel
theorem dX1_mean_87 : decode cX1_mean 87 = .ok (.invokevirtual 229, 3) := by decide +kernel
theorem dX1_mean_90 : decode cX1_mean 90 = .ok (.istore 5, 2) := by decide +kernel
theorem dX1_mean_92 : decode cX1_mean 92 = .ok (.iload 5, 2) := by decide +kernel
theorem dX1_mean_94 : decode cX1_mean 94 = .ok (.ifCond .eq 17, 3) := by decide +kernel
theorem dX1_mean_97 : decode cX1_mean 97 = .ok (.aload 4, 2) := by decide +kernel
theorem dX1_mean_99 : decode cX1_mean 99 = .ok (.iload 6, 2) := by decide +kernel
theorem dX1_mean_101 : decode cX1_mean 101 = .ok (.dup2, 1) := by decide +kernel
theorem dX1_mean_102 : decode cX1_mean 102 = .ok (.iaload, 1) := by decide +kernel
theorem dX1_mean_103 : decode cX1_mean 103 = .ok (.iconst 1, 1) := by decide +kernel
theorem dX1_mean_104 : decode cX1_mean 104 = .ok (.aload_n 1, 1) := by decide +kernel
theorem dX1_mean_105 : decode cX1_mean 105 = .ok (.invokevirtual 232, 3) := by decide +kernel
theorem dX1_mean_108 : decode cX1_mean 108 = .ok (.ishl, 1) := by decide +kernel
theorem dX1_mean_109 : decode cX1_mean 109 = .ok (.ior, 1) := by decide +kernel
theorem dX1_mean_110 : decode cX1_mean 110 = .ok (.iastore, 1) := by decide +kernel
theorem dX1_mean_111 : decode cX1_mean 111 = .ok (.iinc 6 (-1), 3) := by decide +kernel
theorem dX1_mean_114 : decode cX1_mean 114 = .ok (.goto (-44), 3) := by decide +kernel
theorem dX1_mean_117 : decode cX1_mean 117 = .ok (.return_, 1) := by decide +kernel
abbrev MX1_mean : zT := (yX1_mean, cX1_mean, 7, (Option.none : Option Jvm.ClassFile.FieldType), [])
theorem plX1_mean : zplain MX1_mean 4 ∧ (zcodeW MX1_mean ∈ lw_all ∧ Cond.initialized MX1_mean.1.cls ∈ lw_all) := ⟨⟨by decide +kernel, by decide +kernel⟩, q1864, q101⟩
noncomputable def f_X1_mean_117 (σ : zM) : Option zO :=
  some (0, ((3, 0) : zV), σ)
theorem w_X1_mean_117 {g : zG} {lv : Nat} {out : zO} (σ : zM) {r : zO} (h : f_X1_mean_117  σ = some r) (hk : (fun o : zO => o = out) r) : Gj g MX1_mean (lv + 42) 117 [] [] σ out := by
  revert h
  unfold f_X1_mean_117
  intro h
  cases h
  have hk : (0, ((3, 0) : zV), σ) = out := hk
  subst hk
  exact gj_vret (pc := 117) dX1_mean_117 rfl
noncomputable def f_X1_mean_111 (x1 x3 x4 x5 x6 : Int) (σ : zM) : Option ((Int × Int × zM) ⊕ zO) :=
  zlet (zadd x6 (-1)) fun y1 =>
  some (.inl (x5, y1, σ))
theorem w_X1_mean_111 {g : zG} {lv : Nat} {out : zO} (x1 x3 x4 x5 x6 : Int) (σ : zM) {r : ((Int × Int × zM) ⊕ zO)} (h : f_X1_mean_111 x1 x3 x4 x5 x6 σ = some r) (hk : (zKL (fun s : Int × Int × zM => Gj g MX1_mean (lv + 42) 70 [(1, zr x1), (3, zr x3), (4, zr x4), (5, zi s.1), (6, zi s.2.1)] [] s.2.2 out) (fun o : zO => o = out)) r) : Gj g MX1_mean (lv + 42) 111 [(1, zr x1), (3, zr x3), (4, zr x4), (5, zi x5), (6, zi x6)] [] σ out := by
  revert h
  unfold f_X1_mean_111
  refine gb_iinc (pc := 111) 4 (fun y1 => [(6, zi y1), (1, zr x1), (3, zr x3), (4, zr x4), (5, zi x5)]) dX1_mean_111 rfl (by decide) (fun _ => rfl) (fun y1 => ?_)
  refine zst_ (gj_goto 70 (pc := 114) dX1_mean_114 (by decide)) ?_
  refine zst_ (gj_sub [1, 2, 3, 4, 0] rfl) ?_
  intro h
  cases h
  exact hk
noncomputable def f_X1_mean_70_b (x1 x3 x4 x5 x6 : Int) (σ : zM) : Option ((Int × Int × zM) ⊕ zO) :=
  if x6 < 0 then
    (f_X1_mean_117 σ).map (fun r => (.inr r))
  else
    (zga σ 101 x3 x6).bind fun v1 =>
    (zga σ 101 x4 x6).bind fun v2 =>
    zgd (zis σ 19 x1) <|
    zci (f_X18_by x1 v1 v2 x5 σ) fun v3 σ4 =>
    if v3 = 0 then
      f_X1_mean_111 x1 x3 x4 v3 x6 σ4
    else
      (zga σ4 101 x4 x6).bind fun v5 =>
      zgd (zis σ4 19 x1) <|
      zci (f_X18_number x1 σ4) fun v6 σ7 =>
      (zpa σ7 101 x4 x6 (zor v5 (zshl 1 v6))).bind fun σ8 =>
      f_X1_mean_111 x1 x3 x4 v3 x6 σ8
noncomputable def f_X1_mean_70 (x1 x3 x4 x5 x6 : Int) (σ : zM) : Option zO :=
  zloop (fun s : Int × Int × zM => f_X1_mean_70_b x1 x3 x4 s.1 s.2.1 s.2.2) (x5, x6, σ)
theorem w_X1_mean_70_b {g : zG} {lv : Nat} {out : zO} (x1 x3 x4 x5 x6 : Int) (σ : zM) {r : ((Int × Int × zM) ⊕ zO)} (h : f_X1_mean_70_b x1 x3 x4 x5 x6 σ = some r) (hk : (zKL (fun s : Int × Int × zM => Gj g MX1_mean (lv + 42) 70 [(1, zr x1), (3, zr x3), (4, zr x4), (5, zi s.1), (6, zi s.2.1)] [] s.2.2 out) (fun o : zO => o = out)) r) : Gj g MX1_mean (lv + 42) 70 [(1, zr x1), (3, zr x3), (4, zr x4), (5, zi x5), (6, zi x6)] [] σ out := by
  revert h
  unfold f_X1_mean_70_b
  refine zst_ (gj_iload 4 (pc := 70) dX1_mean_70 rfl) ?_
  refine gb_if (gj_if_lt 117 (pc := 72) dX1_mean_72 (by decide)) ?_ ?_
  · refine zst_ (gj_sub [] rfl) ?_
    intro h
    obtain ⟨r0, h0, rfl⟩ := zmE h
    exact w_X1_mean_117 σ h0 hk
  · refine zst_ (gj_aload_n 0 (pc := 75) dX1_mean_75 rfl) ?_
    refine zst_ (gj_aload_n 1 (pc := 76) dX1_mean_76 rfl) ?_
    refine zst_ (gj_iload 4 (pc := 77) dX1_mean_77 rfl) ?_
    refine gb_iald (pc := 79) dX1_mean_79 (fun v1 => ?_)
    refine zst_ (gj_aload 2 (pc := 80) dX1_mean_80 rfl) ?_
    refine zst_ (gj_iload 4 (pc := 82) dX1_mean_82 rfl) ?_
    refine gb_iald (pc := 84) dX1_mean_84 (fun v2 => ?_)
    refine zst_ (gj_iload 3 (pc := 85) dX1_mean_85 rfl) ?_
    refine gb_gd (fun hb => ?_)
    refine gb_callI (pc := 87) (as := [zr x1, zi v1, zi v2, zi x5]) (rest := []) (zCl.of (zLk_V (M := MX1_mean) (ci := 18) (r := (RX18, TX18, 4)) plX18_by.1 rfl rfl (zisE hb).1 (zisE hb).2 dX1_mean_87 q1869 q1708 q1709 q1710) plX18_by (Nat.le_of_ble_eq_true rfl) (fun h => c_X18_by h)) (fun v3 σ4 => ?_)
    refine zst_ (gj_istore (pc := 90) (ls' := [(5, zi v3), (1, zr x1), (3, zr x3), (4, zr x4), (6, zi x6)]) dX1_mean_90 (by decide) rfl) ?_
    refine zst_ (gj_iload 0 (pc := 92) dX1_mean_92 rfl) ?_
    refine gb_if (gj_if_eq 111 (pc := 94) dX1_mean_94 (by decide)) ?_ ?_
    · refine zst_ (gj_sub [1, 2, 3, 0, 4] rfl) ?_
      exact fun h => w_X1_mean_111 x1 x3 x4 v3 x6 σ4 h hk
    · refine zst_ (gj_aload 3 (pc := 97) dX1_mean_97 rfl) ?_
      refine zst_ (gj_iload 4 (pc := 99) dX1_mean_99 rfl) ?_
      refine zst_ (gj_dup2 (pc := 101) dX1_mean_101 rfl rfl) ?_
      refine gb_iald (pc := 102) dX1_mean_102 (fun v5 => ?_)
      refine zst_ (gj_iconst (pc := 103) dX1_mean_103 (by decide)) ?_
      refine zst_ (gj_aload_n 1 (pc := 104) dX1_mean_104 rfl) ?_
      refine gb_gd (fun hb => ?_)
      refine gb_callI (pc := 105) (as := [zr x1]) (rest := [zi 1, zi v5, zi x6, zr x4]) (zCl.of (zLk_V (M := MX1_mean) (ci := 18) (r := (RX18, TX18, 4)) plX18_number.1 rfl rfl (zisE hb).1 (zisE hb).2 dX1_mean_105 q1870 q1871 q1872 q1873) plX18_number (Nat.le_of_ble_eq_true rfl) (fun h => c_X18_number h)) (fun v6 σ7 => ?_)
      refine zst_ (gj_ishl (pc := 108) dX1_mean_108) ?_
      refine zst_ (gj_ior (pc := 109) dX1_mean_109) ?_
      refine gb_iast (pc := 110) dX1_mean_110 (fun σ8 => ?_)
      refine zst_ (gj_sub [1, 2, 3, 0, 4] rfl) ?_
      exact fun h => w_X1_mean_111 x1 x3 x4 v3 x6 σ8 h hk
theorem w_X1_mean_70 {g : zG} {lv : Nat} {out : zO} (x1 x3 x4 x5 x6 : Int) (σ : zM) {r : zO} (h : f_X1_mean_70 x1 x3 x4 x5 x6 σ = some r) (hk : (fun o : zO => o = out) r) : Gj g MX1_mean (lv + 42) 70 [(1, zr x1), (3, zr x3), (4, zr x4), (5, zi x5), (6, zi x6)] [] σ out :=
  gj_loop (P := (fun s : Int × Int × zM => Gj g MX1_mean (lv + 42) 70 [(1, zr x1), (3, zr x3), (4, zr x4), (5, zi s.1), (6, zi s.2.1)] [] s.2.2 out)) (fun s x hb hx => w_X1_mean_70_b x1 x3 x4 s.1 s.2.1 s.2.2 hb hx) h hk
noncomputable def f_X1_mean_62 (x0 x1 x3 x4 x5 : Int) (σ : zM) : Option zO :=
  (zgf σ 110 x0).bind fun v1 =>
  zlet ((zsub v1 1)) fun y2 =>
  f_X1_mean_70 x1 x3 x4 x5 y2 σ
theorem w_X1_mean_62 {g : zG} {lv : Nat} {out : zO} (x0 x1 x3 x4 x5 : Int) (σ : zM) {r : zO} (h : f_X1_mean_62 x0 x1 x3 x4 x5 σ = some r) (hk : (fun o : zO => o = out) r) : Gj g MX1_mean (lv + 42) 62 [(0, zr x0), (1, zr x1), (3, zr x3), (4, zr x4), (5, zi x5)] [] σ out := by
  revert h
  unfold f_X1_mean_62
  refine zst_ (gj_aload_n 0 (pc := 62) dX1_mean_62 rfl) ?_
  refine gb_get (pc := 63) fl110 dX1_mean_63 q851 (Or.inl rfl) (fun v1 => ?_)
  refine zst_ (gj_iconst (pc := 66) dX1_mean_66 (by decide)) ?_
  refine zst_ (gj_isub (pc := 67) dX1_mean_67) ?_
  refine gb_let (fun y2 => ?_)
  refine zst_ (gj_istore (pc := 68) (ls' := [(6, zi y2), (0, zr x0), (1, zr x1), (3, zr x3), (4, zr x4), (5, zi x5)]) dX1_mean_68 (by decide) rfl) ?_
  refine zst_ (gj_sub [2, 3, 4, 5, 0] rfl) ?_
  exact fun h => w_X1_mean_70 x1 x3 x4 x5 y2 σ h hk
noncomputable def f_X1_mean_33_b (x0 x1 x2 x3 x4 x5 x6 : Int) (σ : zM) : Option ((Int × Int × zM) ⊕ zO) :=
  if x6 < x2 then
    (f_X1_mean_62 x0 x1 x3 x4 x5 σ).map (fun r => (.inr r))
  else
    (zga σ 101 x3 x6).bind fun v1 =>
    (zga σ 101 x4 x6).bind fun v2 =>
    zgd (zis σ 19 x1) <|
    zci (f_X18_by x1 v1 v2 x5 σ) fun v3 σ4 =>
    zlet (zadd x6 (-1)) fun y5 =>
    some (.inl (v3, y5, σ4))
noncomputable def f_X1_mean_33 (x0 x1 x2 x3 x4 x5 x6 : Int) (σ : zM) : Option zO :=
  zloop (fun s : Int × Int × zM => f_X1_mean_33_b x0 x1 x2 x3 x4 s.1 s.2.1 s.2.2) (x5, x6, σ)
theorem w_X1_mean_33_b {g : zG} {lv : Nat} {out : zO} (x0 x1 x2 x3 x4 x5 x6 : Int) (σ : zM) {r : ((Int × Int × zM) ⊕ zO)} (h : f_X1_mean_33_b x0 x1 x2 x3 x4 x5 x6 σ = some r) (hk : (zKL (fun s : Int × Int × zM => Gj g MX1_mean (lv + 42) 33 [(0, zr x0), (1, zr x1), (2, zi x2), (3, zr x3), (4, zr x4), (5, zi s.1), (6, zi s.2.1)] [] s.2.2 out) (fun o : zO => o = out)) r) : Gj g MX1_mean (lv + 42) 33 [(0, zr x0), (1, zr x1), (2, zi x2), (3, zr x3), (4, zr x4), (5, zi x5), (6, zi x6)] [] σ out := by
  revert h
  unfold f_X1_mean_33_b
  refine zst_ (gj_iload 6 (pc := 33) dX1_mean_33 rfl) ?_
  refine zst_ (gj_iload_n 2 (pc := 35) dX1_mean_35 rfl) ?_
  refine gb_if (gj_icmp_lt 62 (pc := 36) dX1_mean_36 (by decide)) ?_ ?_
  · refine zst_ (gj_sub [0, 1, 3, 4, 5] rfl) ?_
    intro h
    obtain ⟨r0, h0, rfl⟩ := zmE h
    exact w_X1_mean_62 x0 x1 x3 x4 x5 σ h0 hk
  · refine zst_ (gj_aload_n 1 (pc := 39) dX1_mean_39 rfl) ?_
    refine zst_ (gj_aload_n 3 (pc := 40) dX1_mean_40 rfl) ?_
    refine zst_ (gj_iload 6 (pc := 41) dX1_mean_41 rfl) ?_
    refine gb_iald (pc := 43) dX1_mean_43 (fun v1 => ?_)
    refine zst_ (gj_aload 4 (pc := 44) dX1_mean_44 rfl) ?_
    refine zst_ (gj_iload 6 (pc := 46) dX1_mean_46 rfl) ?_
    refine gb_iald (pc := 48) dX1_mean_48 (fun v2 => ?_)
    refine zst_ (gj_iload 5 (pc := 49) dX1_mean_49 rfl) ?_
    refine gb_gd (fun hb => ?_)
    refine gb_callI (pc := 51) (as := [zr x1, zi v1, zi v2, zi x5]) (rest := []) (zCl.of (zLk_V (M := MX1_mean) (ci := 18) (r := (RX18, TX18, 4)) plX18_by.1 rfl rfl (zisE hb).1 (zisE hb).2 dX1_mean_51 q1869 q1708 q1709 q1710) plX18_by (Nat.le_of_ble_eq_true rfl) (fun h => c_X18_by h)) (fun v3 σ4 => ?_)
    refine zst_ (gj_istore (pc := 54) (ls' := [(5, zi v3), (0, zr x0), (1, zr x1), (2, zi x2), (3, zr x3), (4, zr x4), (6, zi x6)]) dX1_mean_54 (by decide) rfl) ?_
    refine gb_iinc (pc := 56) 6 (fun y5 => [(6, zi y5), (5, zi v3), (0, zr x0), (1, zr x1), (2, zi x2), (3, zr x3), (4, zr x4)]) dX1_mean_56 rfl (by decide) (fun _ => rfl) (fun y5 => ?_)
    refine zst_ (gj_goto 33 (pc := 59) dX1_mean_59 (by decide)) ?_
    refine zst_ (gj_sub [2, 3, 4, 5, 6, 1, 0] rfl) ?_
    intro h
    cases h
    exact hk
theorem w_X1_mean_33 {g : zG} {lv : Nat} {out : zO} (x0 x1 x2 x3 x4 x5 x6 : Int) (σ : zM) {r : zO} (h : f_X1_mean_33 x0 x1 x2 x3 x4 x5 x6 σ = some r) (hk : (fun o : zO => o = out) r) : Gj g MX1_mean (lv + 42) 33 [(0, zr x0), (1, zr x1), (2, zi x2), (3, zr x3), (4, zr x4), (5, zi x5), (6, zi x6)] [] σ out :=
  gj_loop (P := (fun s : Int × Int × zM => Gj g MX1_mean (lv + 42) 33 [(0, zr x0), (1, zr x1), (2, zi x2), (3, zr x3), (4, zr x4), (5, zi s.1), (6, zi s.2.1)] [] s.2.2 out)) (fun s x hb hx => w_X1_mean_33_b x0 x1 x2 x3 x4 s.1 s.2.1 s.2.2 hb hx) h hk
noncomputable def f_X1_mean_23 (x0 x1 x2 x3 x4 t0 : Int) (σ : zM) : Option zO :=
  (zgf σ 110 x0).bind fun v1 =>
  zlet ((zsub v1 1)) fun y2 =>
  f_X1_mean_33 x0 x1 x2 x3 x4 t0 y2 σ
theorem w_X1_mean_23 {g : zG} {lv : Nat} {out : zO} (x0 x1 x2 x3 x4 t0 : Int) (σ : zM) {r : zO} (h : f_X1_mean_23 x0 x1 x2 x3 x4 t0 σ = some r) (hk : (fun o : zO => o = out) r) : Gj g MX1_mean (lv + 42) 23 [(0, zr x0), (1, zr x1), (2, zi x2), (3, zr x3), (4, zr x4)] [zi t0] σ out := by
  revert h
  unfold f_X1_mean_23
  refine zst_ (gj_istore (pc := 23) (ls' := [(5, zi t0), (0, zr x0), (1, zr x1), (2, zi x2), (3, zr x3), (4, zr x4)]) dX1_mean_23 (by decide) rfl) ?_
  refine zst_ (gj_aload_n 1 (pc := 25) dX1_mean_25 rfl) ?_
  refine gb_get (pc := 26) fl110 dX1_mean_26 q851 (Or.inl rfl) (fun v1 => ?_)
  refine zst_ (gj_iconst (pc := 29) dX1_mean_29 (by decide)) ?_
  refine zst_ (gj_isub (pc := 30) dX1_mean_30) ?_
  refine gb_let (fun y2 => ?_)
  refine zst_ (gj_istore (pc := 31) (ls' := [(6, zi y2), (5, zi t0), (0, zr x0), (1, zr x1), (2, zi x2), (3, zr x3), (4, zr x4)]) dX1_mean_31 (by decide) rfl) ?_
  refine zst_ (gj_sub [2, 3, 4, 5, 6, 1, 0] rfl) ?_
  exact fun h => w_X1_mean_33 x0 x1 x2 x3 x4 t0 y2 σ h hk
noncomputable def f_X1_mean_18 (x0 x1 x2 x3 x4 : Int) (σ : zM) : Option zO :=
  f_X1_mean_23 x0 x1 x2 x3 x4 1 σ
theorem w_X1_mean_18 {g : zG} {lv : Nat} {out : zO} (x0 x1 x2 x3 x4 : Int) (σ : zM) {r : zO} (h : f_X1_mean_18 x0 x1 x2 x3 x4 σ = some r) (hk : (fun o : zO => o = out) r) : Gj g MX1_mean (lv + 42) 18 [(0, zr x0), (1, zr x1), (2, zi x2), (3, zr x3), (4, zr x4)] [] σ out := by
  revert h
  unfold f_X1_mean_18
  refine zst_ (gj_iconst (pc := 18) dX1_mean_18 (by decide)) ?_
  refine zst_ (gj_goto 23 (pc := 19) dX1_mean_19 (by decide)) ?_
  exact fun h => w_X1_mean_23 x0 x1 x2 x3 x4 1 σ h hk
noncomputable def f_X1_mean (x0 x1 x2 x3 x4 : Int) (σ : zM) : Option zO :=
  zgd (zis σ 19 x1) <|
  zci (f_X18_sign x1 σ) fun v1 σ2 =>
  if v1 = 82 then
    f_X1_mean_18 x0 x1 x2 x3 x4 σ2
  else
    zgd (zis σ2 19 x1) <|
    zci (f_X18_sign x1 σ2) fun v3 σ4 =>
    if v3 ≠ 71 then
      f_X1_mean_23 x0 x1 x2 x3 x4 0 σ4
    else
      f_X1_mean_18 x0 x1 x2 x3 x4 σ4
theorem c_X1_mean {g : zG} {lv : Nat} {x0 x1 x2 x3 x4 : Int} {σ : zM} {out : zO} (h : f_X1_mean x0 x1 x2 x3 x4 σ = some out) : Cj g (lv + 42) MX1_mean [zr x0, zr x1, zi x2, zr x3, zr x4] σ out := by
  refine cj_go (ls := [(0, zr x0), (1, zr x1), (2, zi x2), (3, zr x3), (4, zr x4)]) (by decide) (Nat.le_of_ble_eq_true rfl) rfl (zgen h (fun r hk => ?_))
  unfold f_X1_mean
  refine zst_ (gj_aload_n 1 (pc := 0) dX1_mean_0 rfl) ?_
  refine gb_gd (fun hb => ?_)
  refine gb_callI (pc := 1) (as := [zr x1]) (rest := []) (zCl.of (zLk_V (M := MX1_mean) (ci := 18) (r := (RX18, TX18, 4)) plX18_sign.1 rfl rfl (zisE hb).1 (zisE hb).2 dX1_mean_1 q1865 q1866 q1867 q1868) plX18_sign (Nat.le_of_ble_eq_true rfl) (fun h => c_X18_sign h)) (fun v1 σ2 => ?_)
  refine zst_ (gj_bipush (pc := 4) dX1_mean_4 ⟨rfl, by decide⟩) ?_
  refine gb_if (gj_icmp_eq 18 (pc := 6) dX1_mean_6 (by decide)) ?_ ?_
  · exact fun h => w_X1_mean_18 x0 x1 x2 x3 x4 σ2 h hk
  · refine zst_ (gj_aload_n 1 (pc := 9) dX1_mean_9 rfl) ?_
    refine gb_gd (fun hb => ?_)
    refine gb_callI (pc := 10) (as := [zr x1]) (rest := []) (zCl.of (zLk_V (M := MX1_mean) (ci := 18) (r := (RX18, TX18, 4)) plX18_sign.1 rfl rfl (zisE hb).1 (zisE hb).2 dX1_mean_10 q1865 q1866 q1867 q1868) plX18_sign (Nat.le_of_ble_eq_true rfl) (fun h => c_X18_sign h)) (fun v3 σ4 => ?_)
    refine zst_ (gj_bipush (pc := 13) dX1_mean_13 ⟨rfl, by decide⟩) ?_
    refine gb_if (gj_icmp_ne 22 (pc := 15) dX1_mean_15 (by decide)) ?_ ?_
    · refine zst_ (gj_iconst (pc := 22) dX1_mean_22 (by decide)) ?_
      exact fun h => w_X1_mean_23 x0 x1 x2 x3 x4 0 σ4 h hk
    · exact fun h => w_X1_mean_18 x0 x1 x2 x3 x4 σ4 h hk
theorem q228 : (Jvm.Cond.arrayClass Jvm.ClassFile.FieldType.int) ∈ lw_all := lw_g (lw_at lw_m1 128 rfl) rfl
theorem q736 : (Jvm.Cond.fieldLinkNest "LassoFinder" (209 : Nat) "LassoFinder$FormulaReader" "temporals" "[LLassoFinder$Temporal;" "LassoFinder") ∈ lw_tbl := lw_at lw_m3 156 rfl
theorem q852 : (Jvm.Cond.fieldLink "LassoFinder" (62 : Nat) "LassoFinder" "now" "LLassoFinder$Moment;") ∈ lw_all := lw_g (lw_at lw_m4 32 rfl) rfl
theorem q933 : (Jvm.Cond.methodLink "LassoFinder" (178 : Nat) ({ cls := "LassoFinder$Model", name := "unpack", desc := "(ILLassoFinder$Moment;)V" } : Jvm.MethodName)) ∈ lw_all := lw_g (lw_at lw_m4 113 rfl) rfl
theorem q1859 : (Jvm.Cond.code ({ cls := "LassoFinder", name := "truth", desc := "(I)Z" } : Jvm.MethodName) prog_1_method_22_code (5 : Nat) (Option.some Jvm.ClassFile.FieldType.boolean)) ∈ lw_all := lw_g (lw_at lw_m8 79 rfl) rfl
theorem q1860 : (Jvm.Cond.methodLink "LassoFinder" (205 : Nat) ({ cls := "LassoFinder$FormulaReader", name := "props", desc := "(LLassoFinder$Moment;)I" } : Jvm.MethodName)) ∈ lw_all := lw_g (lw_at lw_m8 80 rfl) rfl
theorem q1861 : (Jvm.Cond.methodLink "LassoFinder" (213 : Nat) ({ cls := "LassoFinder", name := "mean", desc := "(LLassoFinder$Temporal;I[I[I)V" } : Jvm.MethodName)) ∈ lw_all := lw_g (lw_at lw_m8 81 rfl) rfl
theorem q1863 : (Jvm.Cond.instanceMethod ({ cls := "LassoFinder", name := "mean", desc := "(LLassoFinder$Temporal;I[I[I)V" } : Jvm.MethodName)) ∈ lw_all := lw_g (lw_at lw_m8 83 rfl) rfl
theorem q1875 : (Jvm.Cond.methodLink "LassoFinder" (217 : Nat) ({ cls := "LassoFinder$Formula", name := "is", desc := "(II)Z" } : Jvm.MethodName)) ∈ lw_all := lw_g (lw_at lw_m8 95 rfl) rfl
theorem fl111 : zfl 111 2 "LassoFinder" "now" "LLassoFinder$Moment;" true := ⟨rfl, rfl, rfl⟩
theorem fr111 {g : zG} {v : Int} : zok g (2, v) → zokt g (zft 111) v := fun h => h
abbrev cX1_truth : ByteArray := prog_1_method_22_code
def yX1_truth : MethodName := ⟨RX1, "truth", "(I)Z"⟩
theorem dX1_truth_0 : decode cX1_truth 0 = .ok (.aload_n 0, 1) := by decide +kernel
theorem dX1_truth_1 : decode cX1_truth 1 = .ok (.getfield 56, 3) := by decide +kernel
theorem dX1_truth_4 : decode cX1_truth 4 = .ok (.ifCond .lt 14, 3) := by decide +kernel
theorem dX1_truth_7 : decode cX1_truth 7 = .ok (.aload_n 0, 1) := by decide +kernel
theorem dX1_truth_8 : decode cX1_truth 8 = .ok (.getfield 86, 3) := by decide +kernel
theorem dX1_truth_11 : decode cX1_truth 11 = .ok (.ifnull 7, 3) := by decide +kernel
theorem dX1_truth_14 : decode cX1_truth 14 = .ok (.iconst 1, 1) := by decide +kernel
theorem dX1_truth_15 : decode cX1_truth 15 = .ok (.goto 4, 3) := by decide +kernel
theorem dX1_truth_18 : decode cX1_truth 18 = .ok (.iconst 0, 1) := by decide +kernel
theorem dX1_truth_19 : decode cX1_truth 19 = .ok (.invokestatic 122, 3) := by decide +kernel
theorem dX1_truth_22 : decode cX1_truth 22 = .ok (.iload_n 1, 1) := by decide +kernel
theorem dX1_truth_23 : decode cX1_truth 23 = .ok (.ifCond .lt 29, 3) := by decide +kernel
theorem dX1_truth_26 : decode cX1_truth 26 = .ok (.iload_n 1, 1) := by decide +kernel
theorem dX1_truth_27 : decode cX1_truth 27 = .ok (.aload_n 0, 1) := by decide +kernel
theorem dX1_truth_28 : decode cX1_truth 28 = .ok (.getfield 56, 3) := by decide +kernel
theorem dX1_truth_31 : decode cX1_truth 31 = .ok (.if_icmp .ge 21, 3) := by decide +kernel
theorem dX1_truth_34 : decode cX1_truth 34 = .ok (.aload_n 0, 1) := by decide +kernel
theorem dX1_truth_35 : decode cX1_truth 35 = .ok (.getfield 52, 3) := by decide +kernel
theorem dX1_truth_38 : decode cX1_truth 38 = .ok (.iload_n 1, 1) := by decide +kernel
theorem dX1_truth_39 : decode cX1_truth 39 = .ok (.iaload, 1) := by decide +kernel
theorem dX1_truth_40 : decode cX1_truth 40 = .ok (.aload_n 0, 1) := by decide +kernel
theorem dX1_truth_41 : decode cX1_truth 41 = .ok (.getfield 52, 3) := by decide +kernel
theorem dX1_truth_44 : decode cX1_truth 44 = .ok (.aload_n 0, 1) := by decide +kernel
theorem dX1_truth_45 : decode cX1_truth 45 = .ok (.getfield 56, 3) := by decide +kernel
theorem dX1_truth_48 : decode cX1_truth 48 = .ok (.iaload, 1) := by decide +kernel
theorem dX1_truth_49 : decode cX1_truth 49 = .ok (.if_icmp .eq 11, 3) := by decide +kernel
theorem dX1_truth_52 : decode cX1_truth 52 = .ok (.new 103, 3) := by decide +kernel
theorem dX1_truth_55 : decode cX1_truth 55 = .ok (.dup, 1) := by decide +kernel
theorem dX1_truth_56 : decode cX1_truth 56 = .ok (.invokespecial 108, 3) := by decide +kernel
theorem dX1_truth_59 : decode cX1_truth 59 = .ok (.athrow, 1) := by decide +kernel
theorem dX1_truth_60 : decode cX1_truth 60 = .ok (.bipush 60, 2) := by decide +kernel
theorem dX1_truth_62 : decode cX1_truth 62 = .ok (.newarray .int, 2) := by decide +kernel
theorem dX1_truth_64 : decode cX1_truth 64 = .ok (.astore_n 2, 1) := by decide +kernel
theorem dX1_truth_65 : decode cX1_truth 65 = .ok (.bipush 60, 2) := by decide +kernel
theorem dX1_truth_67 : decode cX1_truth 67 = .ok (.newarray .int, 2) := by decide +kernel
theorem dX1_truth_69 : decode cX1_truth 69 = .ok (.astore_n 3, 1) := by decide +kernel
theorem dX1_truth_70 : decode cX1_truth 70 = .ok (.iconst 0, 1) := by decide +kernel
theorem dX1_truth_71 : decode cX1_truth 71 = .ok (.istore 4, 2) := by decide +kernel
theorem dX1_truth_73 : decode cX1_truth 73 = .ok (.iload 4, 2) := by decide +kernel
theorem dX1_truth_75 : decode cX1_truth 75 = .ok (.aload_n 0, 1) := by decide +kernel
theorem dX1_truth_76 : decode cX1_truth 76 = .ok (.getfield 56, 3) := by decide +kernel
theorem dX1_truth_79 : decode cX1_truth 79 = .ok (.if_icmp .ge 42, 3) := by decide +kernel
theorem dX1_truth_82 : decode cX1_truth 82 = .ok (.aload_n 0, 1) := by decide +kernel
theorem dX1_truth_83 : decode cX1_truth 83 = .ok (.getfield 19, 3) := by decide +kernel
theorem dX1_truth_86 : decode cX1_truth 86 = .ok (.aload_n 0, 1) := by decide +kernel
theorem dX1_truth_87 : decode cX1_truth 87 = .ok (.getfield 52, 3) := by decide +kernel
theorem dX1_truth_90 : decode cX1_truth 90 = .ok (.iload 4, 2) := by decide +kernel
theorem dX1_truth_92 : decode cX1_truth 92 = .ok (.iaload, 1) := by decide +kernel
theorem dX1_truth_93 : decode cX1_truth 93 = .ok (.aload_n 0, 1) := by decide +kernel
theorem dX1_truth_94 : decode cX1_truth 94 = .ok (.getfield 62, 3) := by decide +kernel
theorem dX1_truth_97 : decode cX1_truth 97 = .ok (.invokevirtual 178, 3) := by decide +kernel
theorem dX1_truth_100 : decode cX1_truth 100 = .ok (.aload_n 2, 1) := by decide +kernel
theorem dX1_truth_101 : decode cX1_truth 101 = .ok (.iload 4, 2) := by decide +kernel
theorem dX1_truth_103 : decode cX1_truth 103 = .ok (.aload_n 0, 1) := by decide +kernel
theorem dX1_truth_104 : decode cX1_truth 104 = .ok (.getfield 35, 3) := by decide +kernel
theorem dX1_truth_107 : decode cX1_truth 107 = .ok (.aload_n 0, 1) := by decide +kernel
theorem dX1_truth_108 : decode cX1_truth 108 = .ok (.getfield 62, 3) := by decide +kernel
theorem dX1_truth_111 : decode cX1_truth 111 = .ok (.invokevirtual 205, 3) := by decide +kernel
theorem dX1_truth_114 : decode cX1_truth 114 = .ok (.iastore, 1) := by decide +kernel
theorem dX1_truth_115 : decode cX1_truth 115 = .ok (.iinc 4 1, 3) := by decide +kernel
theorem dX1_truth_118 : decode cX1_truth 118 = .ok (.goto (-45), 3) := by decide +kernel
theorem dX1_truth_121 : decode cX1_truth 121 = .ok (.iconst 0, 1) := by decide +kernel
theorem dX1_truth_122 : decode cX1_truth 122 = .ok (.istore 4, 2) := by decide +kernel
theorem dX1_truth_124 : decode cX1_truth 124 = .ok (.iload 4, 2) := by decide +kernel
theorem dX1_truth_126 : decode cX1_truth 126 = .ok (.aload_n 0, 1) := by decide +kernel
theorem dX1_truth_127 : decode cX1_truth 127 = .ok (.getfield 35, 3) := by decide +kernel
theorem dX1_truth_130 : decode cX1_truth 130 = .ok (.getfield 130, 3) := by decide +kernel
theorem dX1_truth_133 : decode cX1_truth 133 = .ok (.if_icmp .ge 26, 3) := by decide +kernel
theorem dX1_truth_136 : decode cX1_truth 136 = .ok (.aload_n 0, 1) := by decide +kernel
theorem dX1_truth_137 : decode cX1_truth 137 = .ok (.aload_n 0, 1) := by decide +kernel
theorem dX1_truth_138 : decode cX1_truth 138 = .ok (.getfield 35, 3) := by decide +kernel
theorem dX1_truth_141 : decode cX1_truth 141 = .ok (.getfield 209, 3) := by decide +kernel
theorem dX1_truth_144 : decode cX1_truth 144 = .ok (.iload 4, 2) := by decide +kernel
theorem dX1_truth_146 : decode cX1_truth 146 = .ok (.aaload, 1) := by decide +kernel
theorem dX1_truth_147 : decode cX1_truth 147 = .ok (.iload_n 1, 1) := by decide +kernel
theorem dX1_truth_148 : decode cX1_truth 148 = .ok (.aload_n 2, 1) := by decide +kernel
theorem dX1_truth_149 : decode cX1_truth 149 = .ok (.aload_n 3, 1) := by decide +kernel
theorem dX1_truth_150 : decode cX1_truth 150 = .ok (.invokevirtual 213, 3) := by decide +kernel
theorem dX1_truth_153 : decode cX1_truth 153 = .ok (.iinc 4 1, 3) := by decide +kernel
theorem dX1_truth_156 : decode cX1_truth 156 = .ok (.goto (-32), 3) := by decide +kernel
theorem dX1_truth_159 : decode cX1_truth 159 = .ok (.aload_n 0, 1) := by decide +kernel
theorem dX1_truth_160 : decode cX1_truth 160 = .ok (.getfield 86, 3) := by decide +kernel
theorem dX1_truth_163 : decode cX1_truth 163 = .ok (.aload_n 2, 1) := by decide +kernel
theorem dX1_truth_164 : decode cX1_truth 164 = .ok (.iconst 0, 1) := by decide +kernel
theorem dX1_truth_165 : decode cX1_truth 165 = .ok (.iaload, 1) := by decide +kernel
theorem dX1_truth_166 : decode cX1_truth 166 = .ok (.aload_n 3, 1) := by decide +kernel
theorem dX1_truth_167 : decode cX1_truth 167 = .ok (.iconst 0, 1) := by decide +kernel
theorem dX1_truth_168 : decode cX1_truth 168 = .ok (.iaload, 1) := by decide +kernel
theorem dX1_truth_169 : decode cX1_truth 169 = .ok (.invokeinterface 217 3, 5) := by decide +kernel
theorem dX1_truth_174 : decode cX1_truth 174 = .ok (.ireturn, 1) := by decide +kernel
abbrev MX1_truth : zT := (yX1_truth, cX1_truth, 5, (Option.some Jvm.ClassFile.FieldType.boolean), [])
theorem plX1_truth : zplain MX1_truth 1 ∧ (zcodeW MX1_truth ∈ lw_all ∧ Cond.initialized MX1_truth.1.cls ∈ lw_all) := ⟨⟨by decide +kernel, by decide +kernel⟩, q1859, q101⟩
noncomputable def f_X1_truth_52 (σ : zM) : Option zO :=
  (znX σ 51).bind fun σ1 =>
  zgd (zis σ1 51 (↑(zN σ) : Int)) <|
  some (1, zr (↑(zN σ) : Int), σ1)
theorem w_X1_truth_52 {g : zG} {lv : Nat} {out : zO} (σ : zM) {r : zO} (h : f_X1_truth_52  σ = some r) (hk : (fun o : zO => o = out) r) : Gj g MX1_truth (lv + 43) 52 [] [] σ out := by
  revert h
  unfold f_X1_truth_52
  refine gb_exc (pc := 52) (k := 51) ⟨by decide, by decide⟩ (by omega) (Nat.le_of_ble_eq_true rfl) dX1_truth_52 dX1_truth_55 dX1_truth_56 q962 q1422 (fun σ1 => ?_)
  refine gb_gd (fun hb => ?_)
  intro h
  cases h
  have hk : (1, zr (↑(zN σ) : Int), σ1) = out := hk
  subst hk
  exact gj_athrow (pc := 59) (zisE hb).1 (zisE hb).2 (by decide) dX1_truth_59 rfl
noncomputable def f_X1_truth_159 (x0 x2 x3 : Int) (σ : zM) : Option zO :=
  (zgf σ 105 x0).bind fun v1 =>
  (zga σ 101 x2 0).bind fun v2 =>
  (zga σ 101 x3 0).bind fun v3 =>
  zci ((if zis σ 17 v1 = true then f_X16_is v1 v2 v3 σ else if zis σ 18 v1 = true then f_G_X17_is 40 0 [v1, v2, v3] σ else if zis σ 20 v1 = true then f_G_X17_is 40 1 [v1, v2, v3] σ else if zis σ 19 v1 = true then f_X18_is v1 v2 v3 σ else none)) fun v4 σ5 =>
  zgd (z01 v4) <|
  some (0, zi v4, σ5)
theorem w_X1_truth_159 {g : zG} {lv : Nat} {out : zO} (x0 x2 x3 : Int) (σ : zM) {r : zO} (h : f_X1_truth_159 x0 x2 x3 σ = some r) (hk : (fun o : zO => o = out) r) : Gj g MX1_truth (lv + 43) 159 [(0, zr x0), (2, zr x2), (3, zr x3)] [] σ out := by
  revert h
  unfold f_X1_truth_159
  refine zst_ (gj_aload_n 0 (pc := 159) dX1_truth_159 rfl) ?_
  refine gb_get (pc := 160) fl105 dX1_truth_160 q846 (Or.inl rfl) (fun v1 => ?_)
  refine zst_ (gj_aload_n 1 (pc := 163) dX1_truth_163 rfl) ?_
  refine zst_ (gj_iconst (pc := 164) dX1_truth_164 (by decide)) ?_
  refine gb_iald (pc := 165) dX1_truth_165 (fun v2 => ?_)
  refine zst_ (gj_aload_n 2 (pc := 166) dX1_truth_166 rfl) ?_
  refine zst_ (gj_iconst (pc := 167) dX1_truth_167 (by decide)) ?_
  refine gb_iald (pc := 168) dX1_truth_168 (fun v3 => ?_)
  refine gb_callI (pc := 169) (as := [zr v1, zi v2, zi v3]) (rest := []) (zCl.ite (fun hb => zCl.of (zLk_F (M := MX1_truth) (ci := 16) (r := (RX16, TX16, 1)) (x := ⟨"LassoFinder$Formula", "is", "(II)Z"⟩) plX16_is.1 ⟨rfl, rfl⟩ (by decide) rfl rfl (zisE hb).1 (zisE hb).2 dX1_truth_169 q1875 q1734 q1732 q1736 q1714 q1713 q1735 q1733 q1731) plX16_is (Nat.le_of_ble_eq_true rfl) (fun h => c_X16_is h)) (zCl.ite (fun hb => zCl.of (zLk_F (M := MX1_truth) (ci := 17) (r := (RX17, TX17, 1)) (x := ⟨"LassoFinder$Formula", "is", "(II)Z"⟩) plX17_is.1 ⟨rfl, rfl⟩ (by decide) rfl rfl (zisE hb).1 (zisE hb).2 dX1_truth_169 q1875 q1726 q1724 q1728 q1714 q1713 q1727 q1725 q1723) plX17_is (Nat.le_of_ble_eq_true rfl) (fun h => c_G_X17_is_0 h)) (zCl.ite (fun hb => zCl.of (zLk_F (M := MX1_truth) (ci := 19) (r := (RX19, TX19, 3)) (x := ⟨"LassoFinder$Formula", "is", "(II)Z"⟩) plX19_is.1 ⟨rfl, rfl⟩ (by decide) rfl rfl (zisE hb).1 (zisE hb).2 dX1_truth_169 q1875 q1718 q1716 q1720 q1714 q1713 q1719 q1717 q1715) plX19_is (Nat.le_of_ble_eq_true rfl) (fun h => c_G_X17_is_1 h)) (zCl.ite (fun hb => zCl.of (zLk_F (M := MX1_truth) (ci := 18) (r := (RX18, TX18, 4)) (x := ⟨"LassoFinder$Formula", "is", "(II)Z"⟩) plX18_is.1 ⟨rfl, rfl⟩ (by decide) rfl rfl (zisE hb).1 (zisE hb).2 dX1_truth_169 q1875 q1740 q1738 q1742 q1714 q1713 q1741 q1739 q1737) plX18_is (Nat.le_of_ble_eq_true rfl) (fun h => c_X18_is h)) zCl.no)))) (fun v4 σ5 => ?_)
  refine gb_gd (fun hb => ?_)
  intro h
  cases h
  have hk : (0, zi v4, σ5) = out := hk
  subst hk
  exact gj_ret (pc := 174) (t := .boolean) dX1_truth_174 rfl ⟨rfl, rfl⟩ (fun _ => z01E hb)
noncomputable def f_X1_truth_124_b (x0 x1 x2 x3 x4 : Int) (σ : zM) : Option ((Int × zM) ⊕ zO) :=
  (zgf σ 103 x0).bind fun v1 =>
  (zgf σ 707 v1).bind fun v2 =>
  if v2 ≤ x4 then
    (f_X1_truth_159 x0 x2 x3 σ).map (fun r => (.inr r))
  else
    (zgf σ 103 x0).bind fun v3 =>
    (zgf σ 705 v3).bind fun v4 =>
    (zga σ 108 v4 x4).bind fun v5 =>
    zgd (zis σ 2 x0) <|
    zcv (f_X1_mean x0 v5 x1 x2 x3 σ) fun σ6 =>
    zlet (zadd x4 1) fun y7 =>
    some (.inl (y7, σ6))
noncomputable def f_X1_truth_124 (x0 x1 x2 x3 x4 : Int) (σ : zM) : Option zO :=
  zloop (fun s : Int × zM => f_X1_truth_124_b x0 x1 x2 x3 s.1 s.2) (x4, σ)
theorem w_X1_truth_124_b {g : zG} {lv : Nat} {out : zO} (x0 x1 x2 x3 x4 : Int) (σ : zM) {r : ((Int × zM) ⊕ zO)} (h : f_X1_truth_124_b x0 x1 x2 x3 x4 σ = some r) (hk : (zKL (fun s : Int × zM => Gj g MX1_truth (lv + 43) 124 [(0, zr x0), (1, zi x1), (2, zr x2), (3, zr x3), (4, zi s.1)] [] s.2 out) (fun o : zO => o = out)) r) : Gj g MX1_truth (lv + 43) 124 [(0, zr x0), (1, zi x1), (2, zr x2), (3, zr x3), (4, zi x4)] [] σ out := by
  revert h
  unfold f_X1_truth_124_b
  refine zst_ (gj_iload 4 (pc := 124) dX1_truth_124 rfl) ?_
  refine zst_ (gj_aload_n 0 (pc := 126) dX1_truth_126 rfl) ?_
  refine gb_get (pc := 127) fl103 dX1_truth_127 q844 (Or.inl rfl) (fun v1 => ?_)
  refine gb_getNe (pc := 130) fl707 dX1_truth_130 q740 (Or.inl rfl) (fun v2 => ?_)
  refine gb_if (gj_icmp_ge 159 (pc := 133) dX1_truth_133 (by decide)) ?_ ?_
  · refine zst_ (gj_sub [0, 2, 3] rfl) ?_
    intro h
    obtain ⟨r0, h0, rfl⟩ := zmE h
    exact w_X1_truth_159 x0 x2 x3 σ h0 hk
  · refine zst_ (gj_aload_n 0 (pc := 136) dX1_truth_136 rfl) ?_
    refine zst_ (gj_aload_n 0 (pc := 137) dX1_truth_137 rfl) ?_
    refine gb_get (pc := 138) fl103 dX1_truth_138 q844 (Or.inl rfl) (fun v3 => ?_)
    refine gb_getNe (pc := 141) fl705 dX1_truth_141 q736 (Or.inl rfl) (fun v4 => ?_)
    refine zst_ (gj_iload 4 (pc := 144) dX1_truth_144 rfl) ?_
    refine gb_aald (pc := 146) (k := 108) ⟨by decide, by decide⟩ dX1_truth_146 (fun v5 => ?_)
    refine zst_ (gj_iload_n 1 (pc := 147) dX1_truth_147 rfl) ?_
    refine zst_ (gj_aload_n 2 (pc := 148) dX1_truth_148 rfl) ?_
    refine zst_ (gj_aload_n 3 (pc := 149) dX1_truth_149 rfl) ?_
    refine gb_gd (fun hb => ?_)
    refine gb_callV (pc := 150) (as := [zr x0, zr v5, zi x1, zr x2, zr x3]) (rest := []) (zCl.of (zLk_V (M := MX1_truth) (ci := 1) (r := (RX1, TX1, 12)) plX1_mean.1 rfl rfl (zisE hb).1 (zisE hb).2 dX1_truth_150 q1861 q1863 qs44 q1864) plX1_mean (Nat.le_of_ble_eq_true rfl) (fun h => c_X1_mean h)) (fun σ6 => ?_)
    refine gb_iinc (pc := 153) 4 (fun y7 => [(4, zi y7), (0, zr x0), (1, zi x1), (2, zr x2), (3, zr x3)]) dX1_truth_153 rfl (by decide) (fun _ => rfl) (fun y7 => ?_)
    refine zst_ (gj_goto 124 (pc := 156) dX1_truth_156 (by decide)) ?_
    refine zst_ (gj_sub [1, 2, 3, 4, 0] rfl) ?_
    intro h
    cases h
    exact hk
theorem w_X1_truth_124 {g : zG} {lv : Nat} {out : zO} (x0 x1 x2 x3 x4 : Int) (σ : zM) {r : zO} (h : f_X1_truth_124 x0 x1 x2 x3 x4 σ = some r) (hk : (fun o : zO => o = out) r) : Gj g MX1_truth (lv + 43) 124 [(0, zr x0), (1, zi x1), (2, zr x2), (3, zr x3), (4, zi x4)] [] σ out :=
  gj_loop (P := (fun s : Int × zM => Gj g MX1_truth (lv + 43) 124 [(0, zr x0), (1, zi x1), (2, zr x2), (3, zr x3), (4, zi s.1)] [] s.2 out)) (fun s x hb hx => w_X1_truth_124_b x0 x1 x2 x3 s.1 s.2 hb hx) h hk
noncomputable def f_X1_truth_121 (x0 x1 x2 x3 : Int) (σ : zM) : Option zO :=
  f_X1_truth_124 x0 x1 x2 x3 0 σ
theorem w_X1_truth_121 {g : zG} {lv : Nat} {out : zO} (x0 x1 x2 x3 : Int) (σ : zM) {r : zO} (h : f_X1_truth_121 x0 x1 x2 x3 σ = some r) (hk : (fun o : zO => o = out) r) : Gj g MX1_truth (lv + 43) 121 [(0, zr x0), (1, zi x1), (2, zr x2), (3, zr x3)] [] σ out := by
  revert h
  unfold f_X1_truth_121
  refine zst_ (gj_iconst (pc := 121) dX1_truth_121 (by decide)) ?_
  refine zst_ (gj_istore (pc := 122) (ls' := [(4, zi 0), (0, zr x0), (1, zi x1), (2, zr x2), (3, zr x3)]) dX1_truth_122 (by decide) rfl) ?_
  refine zst_ (gj_sub [1, 2, 3, 4, 0] rfl) ?_
  exact fun h => w_X1_truth_124 x0 x1 x2 x3 0 σ h hk
noncomputable def f_X1_truth_73_b (x0 x1 x2 x3 x4 : Int) (σ : zM) : Option ((Int × zM) ⊕ zO) :=
  (zgf σ 110 x0).bind fun v1 =>
  if v1 ≤ x4 then
    (f_X1_truth_121 x0 x1 x2 x3 σ).map (fun r => (.inr r))
  else
    (zgf σ 101 x0).bind fun v2 =>
    (zgf σ 109 x0).bind fun v3 =>
    (zga σ 101 v3 x4).bind fun v4 =>
    (zgf σ 111 x0).bind fun v5 =>
    zgd (zis σ 3 v2) <|
    zcv (f_X2_unpack v2 v4 v5 σ) fun σ6 =>
    (zgf σ6 103 x0).bind fun v7 =>
    (zgf σ6 111 x0).bind fun v8 =>
    zgd (zis σ6 8 v7) <|
    zci (f_X7_props v7 v8 σ6) fun v9 σ10 =>
    (zpa σ10 101 x2 x4 v9).bind fun σ11 =>
    zlet (zadd x4 1) fun y12 =>
    some (.inl (y12, σ11))
noncomputable def f_X1_truth_73 (x0 x1 x2 x3 x4 : Int) (σ : zM) : Option zO :=
  zloop (fun s : Int × zM => f_X1_truth_73_b x0 x1 x2 x3 s.1 s.2) (x4, σ)
theorem w_X1_truth_73_b {g : zG} {lv : Nat} {out : zO} (x0 x1 x2 x3 x4 : Int) (σ : zM) {r : ((Int × zM) ⊕ zO)} (h : f_X1_truth_73_b x0 x1 x2 x3 x4 σ = some r) (hk : (zKL (fun s : Int × zM => Gj g MX1_truth (lv + 43) 73 [(0, zr x0), (1, zi x1), (2, zr x2), (3, zr x3), (4, zi s.1)] [] s.2 out) (fun o : zO => o = out)) r) : Gj g MX1_truth (lv + 43) 73 [(0, zr x0), (1, zi x1), (2, zr x2), (3, zr x3), (4, zi x4)] [] σ out := by
  revert h
  unfold f_X1_truth_73_b
  refine zst_ (gj_iload 4 (pc := 73) dX1_truth_73 rfl) ?_
  refine zst_ (gj_aload_n 0 (pc := 75) dX1_truth_75 rfl) ?_
  refine gb_get (pc := 76) fl110 dX1_truth_76 q851 (Or.inl rfl) (fun v1 => ?_)
  refine gb_if (gj_icmp_ge 121 (pc := 79) dX1_truth_79 (by decide)) ?_ ?_
  · refine zst_ (gj_sub [0, 1, 2, 3] rfl) ?_
    intro h
    obtain ⟨r0, h0, rfl⟩ := zmE h
    exact w_X1_truth_121 x0 x1 x2 x3 σ h0 hk
  · refine zst_ (gj_aload_n 0 (pc := 82) dX1_truth_82 rfl) ?_
    refine gb_get (pc := 83) fl101 dX1_truth_83 q842 (Or.inl rfl) (fun v2 => ?_)
    refine zst_ (gj_aload_n 0 (pc := 86) dX1_truth_86 rfl) ?_
    refine gb_get (pc := 87) fl109 dX1_truth_87 q850 (Or.inl rfl) (fun v3 => ?_)
    refine zst_ (gj_iload 4 (pc := 90) dX1_truth_90 rfl) ?_
    refine gb_iald (pc := 92) dX1_truth_92 (fun v4 => ?_)
    refine zst_ (gj_aload_n 0 (pc := 93) dX1_truth_93 rfl) ?_
    refine gb_get (pc := 94) fl111 dX1_truth_94 q852 (Or.inl rfl) (fun v5 => ?_)
    refine gb_gd (fun hb => ?_)
    refine gb_callV (pc := 97) (as := [zr v2, zi v4, zr v5]) (rest := []) (zCl.of (zLk_V (M := MX1_truth) (ci := 2) (r := (RX2, TX2, 22)) plX2_unpack.1 rfl rfl (zisE hb).1 (zisE hb).2 dX1_truth_97 q933 q934 q935 q936) plX2_unpack (Nat.le_of_ble_eq_true rfl) (fun h => c_X2_unpack h)) (fun σ6 => ?_)
    refine zst_ (gj_aload_n 2 (pc := 100) dX1_truth_100 rfl) ?_
    refine zst_ (gj_iload 4 (pc := 101) dX1_truth_101 rfl) ?_
    refine zst_ (gj_aload_n 0 (pc := 103) dX1_truth_103 rfl) ?_
    refine gb_get (pc := 104) fl103 dX1_truth_104 q844 (Or.inl rfl) (fun v7 => ?_)
    refine zst_ (gj_aload_n 0 (pc := 107) dX1_truth_107 rfl) ?_
    refine gb_get (pc := 108) fl111 dX1_truth_108 q852 (Or.inl rfl) (fun v8 => ?_)
    refine gb_gd (fun hb => ?_)
    refine gb_callI (pc := 111) (as := [zr v7, zr v8]) (rest := [zi x4, zr x2]) (zCl.of (zLk_V (M := MX1_truth) (ci := 7) (r := (RX7, TX7, 10)) plX7_props.1 rfl rfl (zisE hb).1 (zisE hb).2 dX1_truth_111 q1860 q1690 q1691 q1692) plX7_props (Nat.le_of_ble_eq_true rfl) (fun h => c_X7_props h)) (fun v9 σ10 => ?_)
    refine gb_iast (pc := 114) dX1_truth_114 (fun σ11 => ?_)
    refine gb_iinc (pc := 115) 4 (fun y12 => [(4, zi y12), (0, zr x0), (1, zi x1), (2, zr x2), (3, zr x3)]) dX1_truth_115 rfl (by decide) (fun _ => rfl) (fun y12 => ?_)
    refine zst_ (gj_goto 73 (pc := 118) dX1_truth_118 (by decide)) ?_
    refine zst_ (gj_sub [1, 2, 3, 4, 0] rfl) ?_
    intro h
    cases h
    exact hk
theorem w_X1_truth_73 {g : zG} {lv : Nat} {out : zO} (x0 x1 x2 x3 x4 : Int) (σ : zM) {r : zO} (h : f_X1_truth_73 x0 x1 x2 x3 x4 σ = some r) (hk : (fun o : zO => o = out) r) : Gj g MX1_truth (lv + 43) 73 [(0, zr x0), (1, zi x1), (2, zr x2), (3, zr x3), (4, zi x4)] [] σ out :=
  gj_loop (P := (fun s : Int × zM => Gj g MX1_truth (lv + 43) 73 [(0, zr x0), (1, zi x1), (2, zr x2), (3, zr x3), (4, zi s.1)] [] s.2 out)) (fun s x hb hx => w_X1_truth_73_b x0 x1 x2 x3 s.1 s.2 hb hx) h hk
noncomputable def f_X1_truth_19 (x0 x1 t0 : Int) (σ : zM) : Option zO :=
  zcvT (f_X1_need t0 σ) (fun n a σ1 => some (n + 1, zr a, σ1)) fun σ1 =>
  if x1 < 0 then
    f_X1_truth_52 σ1
  else
    (zgf σ1 110 x0).bind fun v2 =>
    if v2 ≤ x1 then
      f_X1_truth_52 σ1
    else
      (zgf σ1 109 x0).bind fun v3 =>
      (zga σ1 101 v3 x1).bind fun v4 =>
      (zgf σ1 109 x0).bind fun v5 =>
      (zgf σ1 110 x0).bind fun v6 =>
      (zga σ1 101 v5 v6).bind fun v7 =>
      if v4 = v7 then
        (znA σ1 101 60).bind fun σ8 =>
        zlet ((↑(zN σ1) : Int)) fun y9 =>
        (znA σ8 101 60).bind fun σ10 =>
        zlet ((↑(zN σ8) : Int)) fun y11 =>
        f_X1_truth_73 x0 x1 y9 y11 0 σ10
      else
        f_X1_truth_52 σ1
theorem w_X1_truth_19 {g : zG} {lv : Nat} {out : zO} (x0 x1 t0 : Int) (σ : zM) {r : zO} (h : f_X1_truth_19 x0 x1 t0 σ = some r) (hk : (fun o : zO => o = out) r) : Gj g MX1_truth (lv + 43) 19 [(0, zr x0), (1, zi x1)] [zi t0] σ out := by
  revert h
  unfold f_X1_truth_19
  refine gb_callVT (pc := 19) (as := [zi t0]) (rest := []) (zCl.of (zLk_S (M := MX1_truth) plX1_need.1 rfl dX1_truth_19 q1536 q1537 q101 q1538) plX1_need (Nat.le_of_ble_eq_true rfl) (fun h => c_X1_need h)) (fun n a s0 h => by cases h; exact Or.inl ⟨rfl, hk⟩) (fun σ1 => ?_)
  refine zst_ (gj_iload_n 1 (pc := 22) dX1_truth_22 rfl) ?_
  refine gb_if (gj_if_lt 52 (pc := 23) dX1_truth_23 (by decide)) ?_ ?_
  · refine zst_ (gj_sub [] rfl) ?_
    exact fun h => w_X1_truth_52 σ1 h hk
  · refine zst_ (gj_iload_n 1 (pc := 26) dX1_truth_26 rfl) ?_
    refine zst_ (gj_aload_n 0 (pc := 27) dX1_truth_27 rfl) ?_
    refine gb_get (pc := 28) fl110 dX1_truth_28 q851 (Or.inl rfl) (fun v2 => ?_)
    refine gb_if (gj_icmp_ge 52 (pc := 31) dX1_truth_31 (by decide)) ?_ ?_
    · refine zst_ (gj_sub [] rfl) ?_
      exact fun h => w_X1_truth_52 σ1 h hk
    · refine zst_ (gj_aload_n 0 (pc := 34) dX1_truth_34 rfl) ?_
      refine gb_get (pc := 35) fl109 dX1_truth_35 q850 (Or.inl rfl) (fun v3 => ?_)
      refine zst_ (gj_iload_n 1 (pc := 38) dX1_truth_38 rfl) ?_
      refine gb_iald (pc := 39) dX1_truth_39 (fun v4 => ?_)
      refine zst_ (gj_aload_n 0 (pc := 40) dX1_truth_40 rfl) ?_
      refine gb_get (pc := 41) fl109 dX1_truth_41 q850 (Or.inl rfl) (fun v5 => ?_)
      refine zst_ (gj_aload_n 0 (pc := 44) dX1_truth_44 rfl) ?_
      refine gb_get (pc := 45) fl110 dX1_truth_45 q851 (Or.inl rfl) (fun v6 => ?_)
      refine gb_iald (pc := 48) dX1_truth_48 (fun v7 => ?_)
      refine gb_if (gj_icmp_eq 60 (pc := 49) dX1_truth_49 (by decide)) ?_ ?_
      · refine zst_ (gj_bipush (pc := 60) dX1_truth_60 ⟨rfl, by decide⟩) ?_
        refine gb_newa (pc := 62) (k := 101) ⟨by decide, by decide⟩ rfl dX1_truth_62 q228 (fun σ8 => ?_)
        refine gb_let (fun y9 => ?_)
        refine zst_ (gj_astore_n (pc := 64) (ls' := [(2, zr y9), (0, zr x0), (1, zi x1)]) dX1_truth_64 (by decide) rfl) ?_
        refine zst_ (gj_bipush (pc := 65) dX1_truth_65 ⟨rfl, by decide⟩) ?_
        refine gb_newa (pc := 67) (k := 101) ⟨by decide, by decide⟩ rfl dX1_truth_67 q228 (fun σ10 => ?_)
        refine gb_let (fun y11 => ?_)
        refine zst_ (gj_astore_n (pc := 69) (ls' := [(3, zr y11), (2, zr y9), (0, zr x0), (1, zi x1)]) dX1_truth_69 (by decide) rfl) ?_
        refine zst_ (gj_iconst (pc := 70) dX1_truth_70 (by decide)) ?_
        refine zst_ (gj_istore (pc := 71) (ls' := [(4, zi 0), (3, zr y11), (2, zr y9), (0, zr x0), (1, zi x1)]) dX1_truth_71 (by decide) rfl) ?_
        refine zst_ (gj_sub [3, 4, 2, 1, 0] rfl) ?_
        exact fun h => w_X1_truth_73 x0 x1 y9 y11 0 σ10 h hk
      · refine zst_ (gj_sub [] rfl) ?_
        exact fun h => w_X1_truth_52 σ1 h hk
noncomputable def f_X1_truth_18 (x0 x1 : Int) (σ : zM) : Option zO :=
  f_X1_truth_19 x0 x1 0 σ
theorem w_X1_truth_18 {g : zG} {lv : Nat} {out : zO} (x0 x1 : Int) (σ : zM) {r : zO} (h : f_X1_truth_18 x0 x1 σ = some r) (hk : (fun o : zO => o = out) r) : Gj g MX1_truth (lv + 43) 18 [(0, zr x0), (1, zi x1)] [] σ out := by
  revert h
  unfold f_X1_truth_18
  refine zst_ (gj_iconst (pc := 18) dX1_truth_18 (by decide)) ?_
  exact fun h => w_X1_truth_19 x0 x1 0 σ h hk
noncomputable def f_X1_truth (x0 x1 : Int) (σ : zM) : Option zO :=
  (zgf σ 110 x0).bind fun v1 =>
  if v1 < 0 then
    f_X1_truth_18 x0 x1 σ
  else
    (zgf σ 105 x0).bind fun v2 =>
    if v2 = (-1) then
      f_X1_truth_18 x0 x1 σ
    else
      f_X1_truth_19 x0 x1 1 σ
theorem c_X1_truth {g : zG} {lv : Nat} {x0 x1 : Int} {σ : zM} {out : zO} (h : f_X1_truth x0 x1 σ = some out) : Cj g (lv + 43) MX1_truth [zr x0, zi x1] σ out := by
  refine cj_go (ls := [(0, zr x0), (1, zi x1)]) (by decide) (Nat.le_of_ble_eq_true rfl) rfl (zgen h (fun r hk => ?_))
  unfold f_X1_truth
  refine zst_ (gj_aload_n 0 (pc := 0) dX1_truth_0 rfl) ?_
  refine gb_get (pc := 1) fl110 dX1_truth_1 q851 (Or.inl rfl) (fun v1 => ?_)
  refine gb_if (gj_if_lt 18 (pc := 4) dX1_truth_4 (by decide)) ?_ ?_
  · exact fun h => w_X1_truth_18 x0 x1 σ h hk
  · refine zst_ (gj_aload_n 0 (pc := 7) dX1_truth_7 rfl) ?_
    refine gb_get (pc := 8) fl105 dX1_truth_8 q846 (Or.inl rfl) (fun v2 => ?_)
    refine gb_if (gj_ifnull 18 (pc := 11) dX1_truth_11 (by decide)) ?_ ?_
    · exact fun h => w_X1_truth_18 x0 x1 σ h hk
    · refine zst_ (gj_iconst (pc := 14) dX1_truth_14 (by decide)) ?_
      refine zst_ (gj_goto 19 (pc := 15) dX1_truth_15 (by decide)) ?_
      exact fun h => w_X1_truth_19 x0 x1 1 σ h hk

set_option maxRecDepth 100000
theorem q1710 : (Jvm.Cond.code ({ cls := "LassoFinder$Temporal", name := "by", desc := "(IIZ)Z" } : Jvm.MethodName) prog_20_method_3_code (6 : Nat) (Option.some Jvm.ClassFile.FieldType.boolean)) ∈ lw_all := lw_g (lw_at lw_m7 170 rfl) rfl
theorem q1712 : (Jvm.Cond.methodLink "LassoFinder$Temporal" (24 : Nat) ({ cls := "LassoFinder$Formula", name := "is", desc := "(II)Z" } : Jvm.MethodName)) ∈ lw_all := lw_g (lw_at lw_m7 172 rfl) rfl
abbrev cX18_by : ByteArray := prog_20_method_3_code
def yX18_by : MethodName := ⟨RX18, "by", "(IIZ)Z"⟩
theorem dX18_by_0 : decode cX18_by 0 = .ok (.aload_n 0, 1) := by decide +kernel
theorem dX18_by_1 : decode cX18_by 1 = .ok (.getfield 17, 3) := by decide +kernel
theorem dX18_by_4 : decode cX18_by 4 = .ok (.iload_n 1, 1) := by decide +kernel
theorem dX18_by_5 : decode cX18_by 5 = .ok (.iload_n 2, 1) := by decide +kernel
theorem dX18_by_6 : decode cX18_by 6 = .ok (.invokeinterface 24 3, 5) := by decide +kernel
theorem dX18_by_11 : decode cX18_by 11 = .ok (.istore 4, 2) := by decide +kernel
theorem dX18_by_13 : decode cX18_by 13 = .ok (.aload_n 0, 1) := by decide +kernel
theorem dX18_by_14 : decode cX18_by 14 = .ok (.getfield 21, 3) := by decide +kernel
theorem dX18_by_17 : decode cX18_by 17 = .ok (.iload_n 1, 1) := by decide +kernel
theorem dX18_by_18 : decode cX18_by 18 = .ok (.iload_n 2, 1) := by decide +kernel
theorem dX18_by_19 : decode cX18_by 19 = .ok (.invokeinterface 24 3, 5) := by decide +kernel
theorem dX18_by_24 : decode cX18_by 24 = .ok (.istore 5, 2) := by decide +kernel
theorem dX18_by_26 : decode cX18_by 26 = .ok (.aload_n 0, 1) := by decide +kernel
theorem dX18_by_27 : decode cX18_by 27 = .ok (.getfield 7, 3) := by decide +kernel
theorem dX18_by_30 : decode cX18_by 30 = .ok (.lookupswitch 89 #[(71, 74), (82, 54), (85, 34)], 34) := by decide +kernel
theorem dX18_by_64 : decode cX18_by 64 = .ok (.iload 5, 2) := by decide +kernel
theorem dX18_by_66 : decode cX18_by 66 = .ok (.ifCond .ne 12, 3) := by decide +kernel
theorem dX18_by_69 : decode cX18_by 69 = .ok (.iload 4, 2) := by decide +kernel
theorem dX18_by_71 : decode cX18_by 71 = .ok (.ifCond .eq 11, 3) := by decide +kernel
theorem dX18_by_74 : decode cX18_by 74 = .ok (.iload_n 3, 1) := by decide +kernel
theorem dX18_by_75 : decode cX18_by 75 = .ok (.ifCond .eq 7, 3) := by decide +kernel
theorem dX18_by_78 : decode cX18_by 78 = .ok (.iconst 1, 1) := by decide +kernel
theorem dX18_by_79 : decode cX18_by 79 = .ok (.goto 4, 3) := by decide +kernel
theorem dX18_by_82 : decode cX18_by 82 = .ok (.iconst 0, 1) := by decide +kernel
theorem dX18_by_83 : decode cX18_by 83 = .ok (.ireturn, 1) := by decide +kernel
theorem dX18_by_84 : decode cX18_by 84 = .ok (.iload 5, 2) := by decide +kernel
theorem dX18_by_86 : decode cX18_by 86 = .ok (.ifCond .eq 16, 3) := by decide +kernel
theorem dX18_by_89 : decode cX18_by 89 = .ok (.iload 4, 2) := by decide +kernel
theorem dX18_by_91 : decode cX18_by 91 = .ok (.ifCond .ne 7, 3) := by decide +kernel
theorem dX18_by_94 : decode cX18_by 94 = .ok (.iload_n 3, 1) := by decide +kernel
theorem dX18_by_95 : decode cX18_by 95 = .ok (.ifCond .eq 7, 3) := by decide +kernel
theorem dX18_by_98 : decode cX18_by 98 = .ok (.iconst 1, 1) := by decide +kernel
theorem dX18_by_99 : decode cX18_by 99 = .ok (.goto 4, 3) := by decide +kernel
theorem dX18_by_102 : decode cX18_by 102 = .ok (.iconst 0, 1) := by decide +kernel
theorem dX18_by_103 : decode cX18_by 103 = .ok (.ireturn, 1) := by decide +kernel
theorem dX18_by_104 : decode cX18_by 104 = .ok (.iload 5, 2) := by decide +kernel
theorem dX18_by_106 : decode cX18_by 106 = .ok (.ifCond .eq 11, 3) := by decide +kernel
theorem dX18_by_109 : decode cX18_by 109 = .ok (.iload_n 3, 1) := by decide +kernel
theorem dX18_by_110 : decode cX18_by 110 = .ok (.ifCond .eq 7, 3) := by decide +kernel
theorem dX18_by_113 : decode cX18_by 113 = .ok (.iconst 1, 1) := by decide +kernel
theorem dX18_by_114 : decode cX18_by 114 = .ok (.goto 4, 3) := by decide +kernel
theorem dX18_by_117 : decode cX18_by 117 = .ok (.iconst 0, 1) := by decide +kernel
theorem dX18_by_118 : decode cX18_by 118 = .ok (.ireturn, 1) := by decide +kernel
theorem dX18_by_119 : decode cX18_by 119 = .ok (.iload 5, 2) := by decide +kernel
theorem dX18_by_121 : decode cX18_by 121 = .ok (.ifCond .ne 7, 3) := by decide +kernel
theorem dX18_by_124 : decode cX18_by 124 = .ok (.iload_n 3, 1) := by decide +kernel
theorem dX18_by_125 : decode cX18_by 125 = .ok (.ifCond .eq 7, 3) := by decide +kernel
theorem dX18_by_128 : decode cX18_by 128 = .ok (.iconst 1, 1) := by decide +kernel
theorem dX18_by_129 : decode cX18_by 129 = .ok (.goto 4, 3) := by decide +kernel
theorem dX18_by_132 : decode cX18_by 132 = .ok (.iconst 0, 1) := by decide +kernel
theorem dX18_by_133 : decode cX18_by 133 = .ok (.ireturn, 1) := by decide +kernel
abbrev MX18_by : zT := (yX18_by, cX18_by, 6, (Option.some Jvm.ClassFile.FieldType.boolean), [])
theorem plX18_by : zplain MX18_by 3 ∧ (zcodeW MX18_by ∈ lw_all ∧ Cond.initialized MX18_by.1.cls ∈ lw_all) := ⟨⟨by decide +kernel, by decide +kernel⟩, q1710, q144⟩
noncomputable def f_X18_by_118 (t0 : Int) (σ : zM) : Option zO :=
  zgd (z01 t0) <|
  some (0, zi t0, σ)
theorem w_X18_by_118 {g : zG} {lv : Nat} {out : zO} (t0 : Int) (σ : zM) {r : zO} (h : f_X18_by_118 t0 σ = some r) (hk : (fun o : zO => o = out) r) : Gj g MX18_by (lv + 41) 118 [] [zi t0] σ out := by
  revert h
  unfold f_X18_by_118
  refine gb_gd (fun hb => ?_)
  intro h
  cases h
  have hk : (0, zi t0, σ) = out := hk
  subst hk
  exact gj_ret (pc := 118) (t := .boolean) dX18_by_118 rfl ⟨rfl, rfl⟩ (fun _ => z01E hb)
noncomputable def f_X18_by_117 (σ : zM) : Option zO :=
  f_X18_by_118 0 σ
theorem w_X18_by_117 {g : zG} {lv : Nat} {out : zO} (σ : zM) {r : zO} (h : f_X18_by_117  σ = some r) (hk : (fun o : zO => o = out) r) : Gj g MX18_by (lv + 41) 117 [] [] σ out := by
  revert h
  unfold f_X18_by_117
  refine zst_ (gj_iconst (pc := 117) dX18_by_117 (by decide)) ?_
  exact fun h => w_X18_by_118 0 σ h hk
noncomputable def f_X18_by_103 (t0 : Int) (σ : zM) : Option zO :=
  zgd (z01 t0) <|
  some (0, zi t0, σ)
theorem w_X18_by_103 {g : zG} {lv : Nat} {out : zO} (t0 : Int) (σ : zM) {r : zO} (h : f_X18_by_103 t0 σ = some r) (hk : (fun o : zO => o = out) r) : Gj g MX18_by (lv + 41) 103 [] [zi t0] σ out := by
  revert h
  unfold f_X18_by_103
  refine gb_gd (fun hb => ?_)
  intro h
  cases h
  have hk : (0, zi t0, σ) = out := hk
  subst hk
  exact gj_ret (pc := 103) (t := .boolean) dX18_by_103 rfl ⟨rfl, rfl⟩ (fun _ => z01E hb)
noncomputable def f_X18_by_102 (σ : zM) : Option zO :=
  f_X18_by_103 0 σ
theorem w_X18_by_102 {g : zG} {lv : Nat} {out : zO} (σ : zM) {r : zO} (h : f_X18_by_102  σ = some r) (hk : (fun o : zO => o = out) r) : Gj g MX18_by (lv + 41) 102 [] [] σ out := by
  revert h
  unfold f_X18_by_102
  refine zst_ (gj_iconst (pc := 102) dX18_by_102 (by decide)) ?_
  exact fun h => w_X18_by_103 0 σ h hk
noncomputable def f_X18_by_98 (σ : zM) : Option zO :=
  f_X18_by_103 1 σ
theorem w_X18_by_98 {g : zG} {lv : Nat} {out : zO} (σ : zM) {r : zO} (h : f_X18_by_98  σ = some r) (hk : (fun o : zO => o = out) r) : Gj g MX18_by (lv + 41) 98 [] [] σ out := by
  revert h
  unfold f_X18_by_98
  refine zst_ (gj_iconst (pc := 98) dX18_by_98 (by decide)) ?_
  refine zst_ (gj_goto 103 (pc := 99) dX18_by_99 (by decide)) ?_
  exact fun h => w_X18_by_103 1 σ h hk
noncomputable def f_X18_by_83 (t0 : Int) (σ : zM) : Option zO :=
  zgd (z01 t0) <|
  some (0, zi t0, σ)
theorem w_X18_by_83 {g : zG} {lv : Nat} {out : zO} (t0 : Int) (σ : zM) {r : zO} (h : f_X18_by_83 t0 σ = some r) (hk : (fun o : zO => o = out) r) : Gj g MX18_by (lv + 41) 83 [] [zi t0] σ out := by
  revert h
  unfold f_X18_by_83
  refine gb_gd (fun hb => ?_)
  intro h
  cases h
  have hk : (0, zi t0, σ) = out := hk
  subst hk
  exact gj_ret (pc := 83) (t := .boolean) dX18_by_83 rfl ⟨rfl, rfl⟩ (fun _ => z01E hb)
noncomputable def f_X18_by_78 (σ : zM) : Option zO :=
  f_X18_by_83 1 σ
theorem w_X18_by_78 {g : zG} {lv : Nat} {out : zO} (σ : zM) {r : zO} (h : f_X18_by_78  σ = some r) (hk : (fun o : zO => o = out) r) : Gj g MX18_by (lv + 41) 78 [] [] σ out := by
  revert h
  unfold f_X18_by_78
  refine zst_ (gj_iconst (pc := 78) dX18_by_78 (by decide)) ?_
  refine zst_ (gj_goto 83 (pc := 79) dX18_by_79 (by decide)) ?_
  exact fun h => w_X18_by_83 1 σ h hk
noncomputable def f_X18_by_82 (σ : zM) : Option zO :=
  f_X18_by_83 0 σ
theorem w_X18_by_82 {g : zG} {lv : Nat} {out : zO} (σ : zM) {r : zO} (h : f_X18_by_82  σ = some r) (hk : (fun o : zO => o = out) r) : Gj g MX18_by (lv + 41) 82 [] [] σ out := by
  revert h
  unfold f_X18_by_82
  refine zst_ (gj_iconst (pc := 82) dX18_by_82 (by decide)) ?_
  exact fun h => w_X18_by_83 0 σ h hk
noncomputable def f_X18_by_133 (t0 : Int) (σ : zM) : Option zO :=
  zgd (z01 t0) <|
  some (0, zi t0, σ)
theorem w_X18_by_133 {g : zG} {lv : Nat} {out : zO} (t0 : Int) (σ : zM) {r : zO} (h : f_X18_by_133 t0 σ = some r) (hk : (fun o : zO => o = out) r) : Gj g MX18_by (lv + 41) 133 [] [zi t0] σ out := by
  revert h
  unfold f_X18_by_133
  refine gb_gd (fun hb => ?_)
  intro h
  cases h
  have hk : (0, zi t0, σ) = out := hk
  subst hk
  exact gj_ret (pc := 133) (t := .boolean) dX18_by_133 rfl ⟨rfl, rfl⟩ (fun _ => z01E hb)
noncomputable def f_X18_by_128 (σ : zM) : Option zO :=
  f_X18_by_133 1 σ
theorem w_X18_by_128 {g : zG} {lv : Nat} {out : zO} (σ : zM) {r : zO} (h : f_X18_by_128  σ = some r) (hk : (fun o : zO => o = out) r) : Gj g MX18_by (lv + 41) 128 [] [] σ out := by
  revert h
  unfold f_X18_by_128
  refine zst_ (gj_iconst (pc := 128) dX18_by_128 (by decide)) ?_
  refine zst_ (gj_goto 133 (pc := 129) dX18_by_129 (by decide)) ?_
  exact fun h => w_X18_by_133 1 σ h hk
noncomputable def f_X18_by (x0 x1 x2 x3 : Int) (σ : zM) : Option zO :=
  (zgf σ 1802 x0).bind fun v1 =>
  zci ((if zis σ 17 v1 = true then f_X16_is v1 x1 x2 σ else if zis σ 18 v1 = true then f_G_X17_is 40 0 [v1, x1, x2] σ else if zis σ 20 v1 = true then f_G_X17_is 40 1 [v1, x1, x2] σ else if zis σ 19 v1 = true then f_X18_is v1 x1 x2 σ else none)) fun v2 σ3 =>
  (zgf σ3 1803 x0).bind fun v4 =>
  zci ((if zis σ3 17 v4 = true then f_X16_is v4 x1 x2 σ3 else if zis σ3 18 v4 = true then f_G_X17_is 40 0 [v4, x1, x2] σ3 else if zis σ3 20 v4 = true then f_G_X17_is 40 1 [v4, x1, x2] σ3 else if zis σ3 19 v4 = true then f_X18_is v4 x1 x2 σ3 else none)) fun v5 σ6 =>
  (zgf σ6 1800 x0).bind fun v7 =>
  if v7 = 71 then
    if v5 = 0 then
      f_X18_by_117 σ6
    else
      if x3 = 0 then
        f_X18_by_117 σ6
      else
        f_X18_by_118 1 σ6
  else if v7 = 82 then
    if v5 = 0 then
      f_X18_by_102 σ6
    else
      if v2 ≠ 0 then
        f_X18_by_98 σ6
      else
        if x3 = 0 then
          f_X18_by_102 σ6
        else
          f_X18_by_98 σ6
  else if v7 = 85 then
    if v5 ≠ 0 then
      f_X18_by_78 σ6
    else
      if v2 = 0 then
        f_X18_by_82 σ6
      else
        if x3 = 0 then
          f_X18_by_82 σ6
        else
          f_X18_by_78 σ6
  else 
    if v5 ≠ 0 then
      f_X18_by_128 σ6
    else
      if x3 = 0 then
        f_X18_by_133 0 σ6
      else
        f_X18_by_128 σ6
theorem c_X18_by {g : zG} {lv : Nat} {x0 x1 x2 x3 : Int} {σ : zM} {out : zO} (h : f_X18_by x0 x1 x2 x3 σ = some out) : Cj g (lv + 41) MX18_by [zr x0, zi x1, zi x2, zi x3] σ out := by
  refine cj_go (ls := [(0, zr x0), (1, zi x1), (2, zi x2), (3, zi x3)]) (by decide) (Nat.le_of_ble_eq_true rfl) rfl (zgen h (fun r hk => ?_))
  unfold f_X18_by
  refine zst_ (gj_aload_n 0 (pc := 0) dX18_by_0 rfl) ?_
  refine gb_get (pc := 1) fl1802 dX18_by_1 q1642 (Or.inl rfl) (fun v1 => ?_)
  refine zst_ (gj_iload_n 1 (pc := 4) dX18_by_4 rfl) ?_
  refine zst_ (gj_iload_n 2 (pc := 5) dX18_by_5 rfl) ?_
  refine gb_callI (pc := 6) (as := [zr v1, zi x1, zi x2]) (rest := []) (zCl.ite (fun hb => zCl.of (zLk_F (M := MX18_by) (ci := 16) (r := (RX16, TX16, 1)) (x := ⟨"LassoFinder$Formula", "is", "(II)Z"⟩) plX16_is.1 ⟨rfl, rfl⟩ (by decide) rfl rfl (zisE hb).1 (zisE hb).2 dX18_by_6 q1712 q1734 q1732 q1736 q1714 q1713 q1735 q1733 q1731) plX16_is (Nat.le_of_ble_eq_true rfl) (fun h => c_X16_is h)) (zCl.ite (fun hb => zCl.of (zLk_F (M := MX18_by) (ci := 17) (r := (RX17, TX17, 1)) (x := ⟨"LassoFinder$Formula", "is", "(II)Z"⟩) plX17_is.1 ⟨rfl, rfl⟩ (by decide) rfl rfl (zisE hb).1 (zisE hb).2 dX18_by_6 q1712 q1726 q1724 q1728 q1714 q1713 q1727 q1725 q1723) plX17_is (Nat.le_of_ble_eq_true rfl) (fun h => c_G_X17_is_0 h)) (zCl.ite (fun hb => zCl.of (zLk_F (M := MX18_by) (ci := 19) (r := (RX19, TX19, 3)) (x := ⟨"LassoFinder$Formula", "is", "(II)Z"⟩) plX19_is.1 ⟨rfl, rfl⟩ (by decide) rfl rfl (zisE hb).1 (zisE hb).2 dX18_by_6 q1712 q1718 q1716 q1720 q1714 q1713 q1719 q1717 q1715) plX19_is (Nat.le_of_ble_eq_true rfl) (fun h => c_G_X17_is_1 h)) (zCl.ite (fun hb => zCl.of (zLk_F (M := MX18_by) (ci := 18) (r := (RX18, TX18, 4)) (x := ⟨"LassoFinder$Formula", "is", "(II)Z"⟩) plX18_is.1 ⟨rfl, rfl⟩ (by decide) rfl rfl (zisE hb).1 (zisE hb).2 dX18_by_6 q1712 q1740 q1738 q1742 q1714 q1713 q1741 q1739 q1737) plX18_is (Nat.le_of_ble_eq_true rfl) (fun h => c_X18_is h)) zCl.no)))) (fun v2 σ3 => ?_)
  refine zst_ (gj_istore (pc := 11) (ls' := [(4, zi v2), (0, zr x0), (1, zi x1), (2, zi x2), (3, zi x3)]) dX18_by_11 (by decide) rfl) ?_
  refine zst_ (gj_aload_n 1 (pc := 13) dX18_by_13 rfl) ?_
  refine gb_get (pc := 14) fl1803 dX18_by_14 q1643 (Or.inl rfl) (fun v4 => ?_)
  refine zst_ (gj_iload_n 2 (pc := 17) dX18_by_17 rfl) ?_
  refine zst_ (gj_iload_n 3 (pc := 18) dX18_by_18 rfl) ?_
  refine gb_callI (pc := 19) (as := [zr v4, zi x1, zi x2]) (rest := []) (zCl.ite (fun hb => zCl.of (zLk_F (M := MX18_by) (ci := 16) (r := (RX16, TX16, 1)) (x := ⟨"LassoFinder$Formula", "is", "(II)Z"⟩) plX16_is.1 ⟨rfl, rfl⟩ (by decide) rfl rfl (zisE hb).1 (zisE hb).2 dX18_by_19 q1712 q1734 q1732 q1736 q1714 q1713 q1735 q1733 q1731) plX16_is (Nat.le_of_ble_eq_true rfl) (fun h => c_X16_is h)) (zCl.ite (fun hb => zCl.of (zLk_F (M := MX18_by) (ci := 17) (r := (RX17, TX17, 1)) (x := ⟨"LassoFinder$Formula", "is", "(II)Z"⟩) plX17_is.1 ⟨rfl, rfl⟩ (by decide) rfl rfl (zisE hb).1 (zisE hb).2 dX18_by_19 q1712 q1726 q1724 q1728 q1714 q1713 q1727 q1725 q1723) plX17_is (Nat.le_of_ble_eq_true rfl) (fun h => c_G_X17_is_0 h)) (zCl.ite (fun hb => zCl.of (zLk_F (M := MX18_by) (ci := 19) (r := (RX19, TX19, 3)) (x := ⟨"LassoFinder$Formula", "is", "(II)Z"⟩) plX19_is.1 ⟨rfl, rfl⟩ (by decide) rfl rfl (zisE hb).1 (zisE hb).2 dX18_by_19 q1712 q1718 q1716 q1720 q1714 q1713 q1719 q1717 q1715) plX19_is (Nat.le_of_ble_eq_true rfl) (fun h => c_G_X17_is_1 h)) (zCl.ite (fun hb => zCl.of (zLk_F (M := MX18_by) (ci := 18) (r := (RX18, TX18, 4)) (x := ⟨"LassoFinder$Formula", "is", "(II)Z"⟩) plX18_is.1 ⟨rfl, rfl⟩ (by decide) rfl rfl (zisE hb).1 (zisE hb).2 dX18_by_19 q1712 q1740 q1738 q1742 q1714 q1713 q1741 q1739 q1737) plX18_is (Nat.le_of_ble_eq_true rfl) (fun h => c_X18_is h)) zCl.no)))) (fun v5 σ6 => ?_)
  refine zst_ (gj_istore (pc := 24) (ls' := [(5, zi v5), (4, zi v2), (0, zr x0), (1, zi x1), (2, zi x2), (3, zi x3)]) dX18_by_24 (by decide) rfl) ?_
  refine zst_ (gj_aload_n 2 (pc := 26) dX18_by_26 rfl) ?_
  refine gb_get (pc := 27) fl1800 dX18_by_27 q1640 (Or.inl rfl) (fun v7 => ?_)
  refine gb_ite (fun hc0 => ?_) (fun hc0 => ?_)
  · refine zst_ (fun kk => gj_lookup (pc := 30) dX18_by_30 (by decide) ⟨104, by rw [hc0]; decide, kk⟩) ?_
    refine zst_ (gj_iload 0 (pc := 104) dX18_by_104 rfl) ?_
    refine gb_if (gj_if_eq 117 (pc := 106) dX18_by_106 (by decide)) ?_ ?_
    · refine zst_ (gj_sub [] rfl) ?_
      exact fun h => w_X18_by_117 σ6 h hk
    · refine zst_ (gj_iload_n 5 (pc := 109) dX18_by_109 rfl) ?_
      refine gb_if (gj_if_eq 117 (pc := 110) dX18_by_110 (by decide)) ?_ ?_
      · refine zst_ (gj_sub [] rfl) ?_
        exact fun h => w_X18_by_117 σ6 h hk
      · refine zst_ (gj_iconst (pc := 113) dX18_by_113 (by decide)) ?_
        refine zst_ (gj_goto 118 (pc := 114) dX18_by_114 (by decide)) ?_
        refine zst_ (gj_sub [] rfl) ?_
        exact fun h => w_X18_by_118 1 σ6 h hk
  · refine gb_ite (fun hc1 => ?_) (fun hc1 => ?_)
    · refine zst_ (fun kk => gj_lookup (pc := 30) dX18_by_30 (by decide) ⟨84, by rw [hc1]; decide, kk⟩) ?_
      refine zst_ (gj_iload 0 (pc := 84) dX18_by_84 rfl) ?_
      refine gb_if (gj_if_eq 102 (pc := 86) dX18_by_86 (by decide)) ?_ ?_
      · refine zst_ (gj_sub [] rfl) ?_
        exact fun h => w_X18_by_102 σ6 h hk
      · refine zst_ (gj_iload 1 (pc := 89) dX18_by_89 rfl) ?_
        refine gb_if (gj_if_ne 98 (pc := 91) dX18_by_91 (by decide)) ?_ ?_
        · refine zst_ (gj_sub [] rfl) ?_
          exact fun h => w_X18_by_98 σ6 h hk
        · refine zst_ (gj_iload_n 5 (pc := 94) dX18_by_94 rfl) ?_
          refine gb_if (gj_if_eq 102 (pc := 95) dX18_by_95 (by decide)) ?_ ?_
          · refine zst_ (gj_sub [] rfl) ?_
            exact fun h => w_X18_by_102 σ6 h hk
          · refine zst_ (gj_sub [] rfl) ?_
            exact fun h => w_X18_by_98 σ6 h hk
    · refine gb_ite (fun hc2 => ?_) (fun hc2 => ?_)
      · refine zst_ (fun kk => gj_lookup (pc := 30) dX18_by_30 (by decide) ⟨64, by rw [hc2]; decide, kk⟩) ?_
        refine zst_ (gj_iload 0 (pc := 64) dX18_by_64 rfl) ?_
        refine gb_if (gj_if_ne 78 (pc := 66) dX18_by_66 (by decide)) ?_ ?_
        · refine zst_ (gj_sub [] rfl) ?_
          exact fun h => w_X18_by_78 σ6 h hk
        · refine zst_ (gj_iload 1 (pc := 69) dX18_by_69 rfl) ?_
          refine gb_if (gj_if_eq 82 (pc := 71) dX18_by_71 (by decide)) ?_ ?_
          · refine zst_ (gj_sub [] rfl) ?_
            exact fun h => w_X18_by_82 σ6 h hk
          · refine zst_ (gj_iload_n 5 (pc := 74) dX18_by_74 rfl) ?_
            refine gb_if (gj_if_eq 82 (pc := 75) dX18_by_75 (by decide)) ?_ ?_
            · refine zst_ (gj_sub [] rfl) ?_
              exact fun h => w_X18_by_82 σ6 h hk
            · refine zst_ (gj_sub [] rfl) ?_
              exact fun h => w_X18_by_78 σ6 h hk
      · refine zst_ (fun kk => gj_lookup (pc := 30) dX18_by_30 (by decide) ⟨119, by simp [Op.lookupswitch.offset, hc0, Ne.symm hc0, hc1, Ne.symm hc1, hc2, Ne.symm hc2], kk⟩) ?_
        refine zst_ (gj_iload 0 (pc := 119) dX18_by_119 rfl) ?_
        refine gb_if (gj_if_ne 128 (pc := 121) dX18_by_121 (by decide)) ?_ ?_
        · refine zst_ (gj_sub [] rfl) ?_
          exact fun h => w_X18_by_128 σ6 h hk
        · refine zst_ (gj_iload_n 5 (pc := 124) dX18_by_124 rfl) ?_
          refine gb_if (gj_if_eq 132 (pc := 125) dX18_by_125 (by decide)) ?_ ?_
          · refine zst_ (gj_iconst (pc := 132) dX18_by_132 (by decide)) ?_
            refine zst_ (gj_sub [] rfl) ?_
            exact fun h => w_X18_by_133 0 σ6 h hk
          · refine zst_ (gj_sub [] rfl) ?_
            exact fun h => w_X18_by_128 σ6 h hk
theorem q1706 : (Jvm.Cond.code ({ cls := "LassoFinder$FormulaReader", name := "back", desc := "(II)I" } : Jvm.MethodName) prog_7_method_12_code (5 : Nat) (Option.some Jvm.ClassFile.FieldType.int)) ∈ lw_all := lw_g (lw_at lw_m7 166 rfl) rfl
theorem q1707 : (Jvm.Cond.methodLink "LassoFinder$FormulaReader" (143 : Nat) ({ cls := "LassoFinder$Temporal", name := "by", desc := "(IIZ)Z" } : Jvm.MethodName)) ∈ lw_all := lw_g (lw_at lw_m7 167 rfl) rfl
theorem q1708 : (Jvm.Cond.instanceMethod ({ cls := "LassoFinder$Temporal", name := "by", desc := "(IIZ)Z" } : Jvm.MethodName)) ∈ lw_all := lw_g (lw_at lw_m7 168 rfl) rfl
theorem q1709 : (Jvm.Cond.selects "LassoFinder$Temporal" ({ cls := "LassoFinder$Temporal", name := "by", desc := "(IIZ)Z" } : Jvm.MethodName) ({ cls := "LassoFinder$Temporal", name := "by", desc := "(IIZ)Z" } : Jvm.MethodName)) ∈ lw_all := lw_g (lw_at lw_m7 169 rfl) rfl
abbrev cX7_back : ByteArray := prog_7_method_12_code
def yX7_back : MethodName := ⟨RX7, "back", "(II)I"⟩
theorem dX7_back_0 : decode cX7_back 0 = .ok (.iconst 0, 1) := by decide +kernel
theorem dX7_back_1 : decode cX7_back 1 = .ok (.istore_n 3, 1) := by decide +kernel
theorem dX7_back_2 : decode cX7_back 2 = .ok (.iconst 0, 1) := by decide +kernel
theorem dX7_back_3 : decode cX7_back 3 = .ok (.istore 4, 2) := by decide +kernel
theorem dX7_back_5 : decode cX7_back 5 = .ok (.iload 4, 2) := by decide +kernel
theorem dX7_back_7 : decode cX7_back 7 = .ok (.aload_n 0, 1) := by decide +kernel
theorem dX7_back_8 : decode cX7_back 8 = .ok (.getfield 23, 3) := by decide +kernel
theorem dX7_back_11 : decode cX7_back 11 = .ok (.if_icmp .ge 46, 3) := by decide +kernel
theorem dX7_back_14 : decode cX7_back 14 = .ok (.aload_n 0, 1) := by decide +kernel
theorem dX7_back_15 : decode cX7_back 15 = .ok (.getfield 11, 3) := by decide +kernel
theorem dX7_back_18 : decode cX7_back 18 = .ok (.iload 4, 2) := by decide +kernel
theorem dX7_back_20 : decode cX7_back 20 = .ok (.aaload, 1) := by decide +kernel
theorem dX7_back_21 : decode cX7_back 21 = .ok (.iload_n 1, 1) := by decide +kernel
theorem dX7_back_22 : decode cX7_back 22 = .ok (.iload_n 3, 1) := by decide +kernel
theorem dX7_back_23 : decode cX7_back 23 = .ok (.iload_n 2, 1) := by decide +kernel
theorem dX7_back_24 : decode cX7_back 24 = .ok (.iload 4, 2) := by decide +kernel
theorem dX7_back_26 : decode cX7_back 26 = .ok (.ishr, 1) := by decide +kernel
theorem dX7_back_27 : decode cX7_back 27 = .ok (.iconst 1, 1) := by decide +kernel
theorem dX7_back_28 : decode cX7_back 28 = .ok (.iand, 1) := by decide +kernel
theorem dX7_back_29 : decode cX7_back 29 = .ok (.iconst 1, 1) := by decide +kernel
theorem dX7_back_30 : decode cX7_back 30 = .ok (.if_icmp .ne 7, 3) := by decide +kernel
theorem dX7_back_33 : decode cX7_back 33 = .ok (.iconst 1, 1) := by decide +kernel
theorem dX7_back_34 : decode cX7_back 34 = .ok (.goto 4, 3) := by decide +kernel
theorem dX7_back_37 : decode cX7_back 37 = .ok (.iconst 0, 1) := by decide +kernel
theorem dX7_back_38 : decode cX7_back 38 = .ok (.invokevirtual 143, 3) := by decide +kernel
theorem dX7_back_41 : decode cX7_back 41 = .ok (.ifCond .eq 10, 3) := by decide +kernel
theorem dX7_back_44 : decode cX7_back 44 = .ok (.iload_n 3, 1) := by decide +kernel
theorem dX7_back_45 : decode cX7_back 45 = .ok (.iconst 1, 1) := by decide +kernel
theorem dX7_back_46 : decode cX7_back 46 = .ok (.iload 4, 2) := by decide +kernel
theorem dX7_back_48 : decode cX7_back 48 = .ok (.ishl, 1) := by decide +kernel
theorem dX7_back_49 : decode cX7_back 49 = .ok (.ior, 1) := by decide +kernel
theorem dX7_back_50 : decode cX7_back 50 = .ok (.istore_n 3, 1) := by decide +kernel
theorem dX7_back_51 : decode cX7_back 51 = .ok (.iinc 4 1, 3) := by decide +kernel
theorem dX7_back_54 : decode cX7_back 54 = .ok (.goto (-49), 3) := by decide +kernel
theorem dX7_back_57 : decode cX7_back 57 = .ok (.iload_n 3, 1) := by decide +kernel
theorem dX7_back_58 : decode cX7_back 58 = .ok (.ireturn, 1) := by decide +kernel
abbrev MX7_back : zT := (yX7_back, cX7_back, 5, (Option.some Jvm.ClassFile.FieldType.int), [])
theorem plX7_back : zplain MX7_back 2 ∧ (zcodeW MX7_back ∈ lw_all ∧ Cond.initialized MX7_back.1.cls ∈ lw_all) := ⟨⟨by decide +kernel, by decide +kernel⟩, q1706, q125⟩
noncomputable def f_X7_back_57 (x3 : Int) (σ : zM) : Option zO :=
  some (0, zi x3, σ)
theorem w_X7_back_57 {g : zG} {lv : Nat} {out : zO} (x3 : Int) (σ : zM) {r : zO} (h : f_X7_back_57 x3 σ = some r) (hk : (fun o : zO => o = out) r) : Gj g MX7_back (lv + 42) 57 [(3, zi x3)] [] σ out := by
  revert h
  unfold f_X7_back_57
  refine zst_ (gj_iload_n 0 (pc := 57) dX7_back_57 rfl) ?_
  intro h
  cases h
  have hk : (0, zi x3, σ) = out := hk
  subst hk
  exact gj_ret (pc := 58) (t := .int) dX7_back_58 rfl ⟨rfl, rfl⟩ (fun h => h)
noncomputable def f_X7_back_51 (x0 x1 x2 x3 x4 : Int) (σ : zM) : Option ((Int × Int × zM) ⊕ zO) :=
  zlet (zadd x4 1) fun y1 =>
  some (.inl (x3, y1, σ))
theorem w_X7_back_51 {g : zG} {lv : Nat} {out : zO} (x0 x1 x2 x3 x4 : Int) (σ : zM) {r : ((Int × Int × zM) ⊕ zO)} (h : f_X7_back_51 x0 x1 x2 x3 x4 σ = some r) (hk : (zKL (fun s : Int × Int × zM => Gj g MX7_back (lv + 42) 5 [(0, zr x0), (1, zi x1), (2, zi x2), (3, zi s.1), (4, zi s.2.1)] [] s.2.2 out) (fun o : zO => o = out)) r) : Gj g MX7_back (lv + 42) 51 [(0, zr x0), (1, zi x1), (2, zi x2), (3, zi x3), (4, zi x4)] [] σ out := by
  revert h
  unfold f_X7_back_51
  refine gb_iinc (pc := 51) 4 (fun y1 => [(4, zi y1), (0, zr x0), (1, zi x1), (2, zi x2), (3, zi x3)]) dX7_back_51 rfl (by decide) (fun _ => rfl) (fun y1 => ?_)
  refine zst_ (gj_goto 5 (pc := 54) dX7_back_54 (by decide)) ?_
  refine zst_ (gj_sub [1, 2, 3, 4, 0] rfl) ?_
  intro h
  cases h
  exact hk
noncomputable def f_X7_back_38 (x0 x1 x2 x3 x4 t0 t1 t2 t3 : Int) (σ : zM) : Option ((Int × Int × zM) ⊕ zO) :=
  zgd (zis σ 19 t3) <|
  zci (f_X18_by t3 t2 t1 t0 σ) fun v1 σ2 =>
  if v1 = 0 then
    f_X7_back_51 x0 x1 x2 x3 x4 σ2
  else
    zlet ((zor x3 (zshl 1 x4))) fun y3 =>
    f_X7_back_51 x0 x1 x2 y3 x4 σ2
theorem w_X7_back_38 {g : zG} {lv : Nat} {out : zO} (x0 x1 x2 x3 x4 t0 t1 t2 t3 : Int) (σ : zM) {r : ((Int × Int × zM) ⊕ zO)} (h : f_X7_back_38 x0 x1 x2 x3 x4 t0 t1 t2 t3 σ = some r) (hk : (zKL (fun s : Int × Int × zM => Gj g MX7_back (lv + 42) 5 [(0, zr x0), (1, zi x1), (2, zi x2), (3, zi s.1), (4, zi s.2.1)] [] s.2.2 out) (fun o : zO => o = out)) r) : Gj g MX7_back (lv + 42) 38 [(0, zr x0), (1, zi x1), (2, zi x2), (3, zi x3), (4, zi x4)] [zi t0, zi t1, zi t2, zr t3] σ out := by
  revert h
  unfold f_X7_back_38
  refine gb_gd (fun hb => ?_)
  refine gb_callI (pc := 38) (as := [zr t3, zi t2, zi t1, zi t0]) (rest := []) (zCl.of (zLk_V (M := MX7_back) (ci := 18) (r := (RX18, TX18, 4)) plX18_by.1 rfl rfl (zisE hb).1 (zisE hb).2 dX7_back_38 q1707 q1708 q1709 q1710) plX18_by (Nat.le_of_ble_eq_true rfl) (fun h => c_X18_by h)) (fun v1 σ2 => ?_)
  refine gb_if (gj_if_eq 51 (pc := 41) dX7_back_41 (by decide)) ?_ ?_
  · exact fun h => w_X7_back_51 x0 x1 x2 x3 x4 σ2 h hk
  · refine zst_ (gj_iload_n 3 (pc := 44) dX7_back_44 rfl) ?_
    refine zst_ (gj_iconst (pc := 45) dX7_back_45 (by decide)) ?_
    refine zst_ (gj_iload 4 (pc := 46) dX7_back_46 rfl) ?_
    refine zst_ (gj_ishl (pc := 48) dX7_back_48) ?_
    refine zst_ (gj_ior (pc := 49) dX7_back_49) ?_
    refine gb_let (fun y3 => ?_)
    refine zst_ (gj_istore_n (pc := 50) (ls' := [(3, zi y3), (0, zr x0), (1, zi x1), (2, zi x2), (4, zi x4)]) dX7_back_50 (by decide) rfl) ?_
    refine zst_ (gj_sub [1, 2, 3, 0, 4] rfl) ?_
    exact fun h => w_X7_back_51 x0 x1 x2 y3 x4 σ2 h hk
noncomputable def f_X7_back_5_b (x0 x1 x2 x3 x4 : Int) (σ : zM) : Option ((Int × Int × zM) ⊕ zO) :=
  (zgf σ 707 x0).bind fun v1 =>
  if v1 ≤ x4 then
    (f_X7_back_57 x3 σ).map (fun r => (.inr r))
  else
    (zgf σ 705 x0).bind fun v2 =>
    (zga σ 108 v2 x4).bind fun v3 =>
    if (zand (zshr x2 x4) 1) ≠ 1 then
      f_X7_back_38 x0 x1 x2 x3 x4 0 x3 x1 v3 σ
    else
      f_X7_back_38 x0 x1 x2 x3 x4 1 x3 x1 v3 σ
noncomputable def f_X7_back_5 (x0 x1 x2 x3 x4 : Int) (σ : zM) : Option zO :=
  zloop (fun s : Int × Int × zM => f_X7_back_5_b x0 x1 x2 s.1 s.2.1 s.2.2) (x3, x4, σ)
theorem w_X7_back_5_b {g : zG} {lv : Nat} {out : zO} (x0 x1 x2 x3 x4 : Int) (σ : zM) {r : ((Int × Int × zM) ⊕ zO)} (h : f_X7_back_5_b x0 x1 x2 x3 x4 σ = some r) (hk : (zKL (fun s : Int × Int × zM => Gj g MX7_back (lv + 42) 5 [(0, zr x0), (1, zi x1), (2, zi x2), (3, zi s.1), (4, zi s.2.1)] [] s.2.2 out) (fun o : zO => o = out)) r) : Gj g MX7_back (lv + 42) 5 [(0, zr x0), (1, zi x1), (2, zi x2), (3, zi x3), (4, zi x4)] [] σ out := by
  revert h
  unfold f_X7_back_5_b
  refine zst_ (gj_iload 4 (pc := 5) dX7_back_5 rfl) ?_
  refine zst_ (gj_aload_n 0 (pc := 7) dX7_back_7 rfl) ?_
  refine gb_get (pc := 8) fl707 dX7_back_8 q738 (Or.inl rfl) (fun v1 => ?_)
  refine gb_if (gj_icmp_ge 57 (pc := 11) dX7_back_11 (by decide)) ?_ ?_
  · refine zst_ (gj_sub [3] rfl) ?_
    intro h
    obtain ⟨r0, h0, rfl⟩ := zmE h
    exact w_X7_back_57 x3 σ h0 hk
  · refine zst_ (gj_aload_n 0 (pc := 14) dX7_back_14 rfl) ?_
    refine gb_get (pc := 15) fl705 dX7_back_15 q735 (Or.inl rfl) (fun v2 => ?_)
    refine zst_ (gj_iload 4 (pc := 18) dX7_back_18 rfl) ?_
    refine gb_aald (pc := 20) (k := 108) ⟨by decide, by decide⟩ dX7_back_20 (fun v3 => ?_)
    refine zst_ (gj_iload_n 1 (pc := 21) dX7_back_21 rfl) ?_
    refine zst_ (gj_iload_n 3 (pc := 22) dX7_back_22 rfl) ?_
    refine zst_ (gj_iload_n 2 (pc := 23) dX7_back_23 rfl) ?_
    refine zst_ (gj_iload 4 (pc := 24) dX7_back_24 rfl) ?_
    refine zst_ (gj_ishr (pc := 26) dX7_back_26) ?_
    refine zst_ (gj_iconst (pc := 27) dX7_back_27 (by decide)) ?_
    refine zst_ (gj_iand (pc := 28) dX7_back_28) ?_
    refine zst_ (gj_iconst (pc := 29) dX7_back_29 (by decide)) ?_
    refine gb_if (gj_icmp_ne 37 (pc := 30) dX7_back_30 (by decide)) ?_ ?_
    · refine zst_ (gj_iconst (pc := 37) dX7_back_37 (by decide)) ?_
      exact fun h => w_X7_back_38 x0 x1 x2 x3 x4 0 x3 x1 v3 σ h hk
    · refine zst_ (gj_iconst (pc := 33) dX7_back_33 (by decide)) ?_
      refine zst_ (gj_goto 38 (pc := 34) dX7_back_34 (by decide)) ?_
      exact fun h => w_X7_back_38 x0 x1 x2 x3 x4 1 x3 x1 v3 σ h hk
theorem w_X7_back_5 {g : zG} {lv : Nat} {out : zO} (x0 x1 x2 x3 x4 : Int) (σ : zM) {r : zO} (h : f_X7_back_5 x0 x1 x2 x3 x4 σ = some r) (hk : (fun o : zO => o = out) r) : Gj g MX7_back (lv + 42) 5 [(0, zr x0), (1, zi x1), (2, zi x2), (3, zi x3), (4, zi x4)] [] σ out :=
  gj_loop (P := (fun s : Int × Int × zM => Gj g MX7_back (lv + 42) 5 [(0, zr x0), (1, zi x1), (2, zi x2), (3, zi s.1), (4, zi s.2.1)] [] s.2.2 out)) (fun s x hb hx => w_X7_back_5_b x0 x1 x2 s.1 s.2.1 s.2.2 hb hx) h hk
noncomputable def f_X7_back (x0 x1 x2 : Int) (σ : zM) : Option zO :=
  f_X7_back_5 x0 x1 x2 0 0 σ
theorem c_X7_back {g : zG} {lv : Nat} {x0 x1 x2 : Int} {σ : zM} {out : zO} (h : f_X7_back x0 x1 x2 σ = some out) : Cj g (lv + 42) MX7_back [zr x0, zi x1, zi x2] σ out := by
  refine cj_go (ls := [(0, zr x0), (1, zi x1), (2, zi x2)]) (by decide) (Nat.le_of_ble_eq_true rfl) rfl (zgen h (fun r hk => ?_))
  unfold f_X7_back
  refine zst_ (gj_iconst (pc := 0) dX7_back_0 (by decide)) ?_
  refine zst_ (gj_istore_n (pc := 1) (ls' := [(3, zi 0), (0, zr x0), (1, zi x1), (2, zi x2)]) dX7_back_1 (by decide) rfl) ?_
  refine zst_ (gj_iconst (pc := 2) dX7_back_2 (by decide)) ?_
  refine zst_ (gj_istore (pc := 3) (ls' := [(4, zi 0), (3, zi 0), (0, zr x0), (1, zi x1), (2, zi x2)]) dX7_back_3 (by decide) rfl) ?_
  refine zst_ (gj_sub [2, 3, 4, 1, 0] rfl) ?_
  exact fun h => w_X7_back_5 x0 x1 x2 0 0 σ h hk
theorem q1750 : (Jvm.Cond.code ({ cls := "LassoFinder$Temporal", name := "rests", desc := "(II)Z" } : Jvm.MethodName) prog_20_method_4_code (3 : Nat) (Option.some Jvm.ClassFile.FieldType.boolean)) ∈ lw_all := lw_g (lw_at lw_m7 210 rfl) rfl
theorem q1751 : (Jvm.Cond.methodLink "LassoFinder$Temporal" (30 : Nat) ({ cls := "LassoFinder$Temporal", name := "is", desc := "(II)Z" } : Jvm.MethodName)) ∈ lw_all := lw_g (lw_at lw_m7 211 rfl) rfl
theorem q2470 : (Jvm.Cond.selects "LassoFinder$Temporal" ({ cls := "LassoFinder$Temporal", name := "is", desc := "(II)Z" } : Jvm.MethodName) ({ cls := "LassoFinder$Temporal", name := "is", desc := "(II)Z" } : Jvm.MethodName)) ∈ lw_all := lw_g (lw_at lw_m10 210 rfl) rfl
abbrev cX18_rests : ByteArray := prog_20_method_4_code
def yX18_rests : MethodName := ⟨RX18, "rests", "(II)Z"⟩
theorem dX18_rests_0 : decode cX18_rests 0 = .ok (.aload_n 0, 1) := by decide +kernel
theorem dX18_rests_1 : decode cX18_rests 1 = .ok (.getfield 21, 3) := by decide +kernel
theorem dX18_rests_4 : decode cX18_rests 4 = .ok (.iload_n 1, 1) := by decide +kernel
theorem dX18_rests_5 : decode cX18_rests 5 = .ok (.iload_n 2, 1) := by decide +kernel
theorem dX18_rests_6 : decode cX18_rests 6 = .ok (.invokeinterface 24 3, 5) := by decide +kernel
theorem dX18_rests_11 : decode cX18_rests 11 = .ok (.aload_n 0, 1) := by decide +kernel
theorem dX18_rests_12 : decode cX18_rests 12 = .ok (.iload_n 1, 1) := by decide +kernel
theorem dX18_rests_13 : decode cX18_rests 13 = .ok (.iload_n 2, 1) := by decide +kernel
theorem dX18_rests_14 : decode cX18_rests 14 = .ok (.invokevirtual 30, 3) := by decide +kernel
theorem dX18_rests_17 : decode cX18_rests 17 = .ok (.if_icmp .ne 7, 3) := by decide +kernel
theorem dX18_rests_20 : decode cX18_rests 20 = .ok (.iconst 1, 1) := by decide +kernel
theorem dX18_rests_21 : decode cX18_rests 21 = .ok (.goto 4, 3) := by decide +kernel
theorem dX18_rests_24 : decode cX18_rests 24 = .ok (.iconst 0, 1) := by decide +kernel
theorem dX18_rests_25 : decode cX18_rests 25 = .ok (.ireturn, 1) := by decide +kernel
abbrev MX18_rests : zT := (yX18_rests, cX18_rests, 3, (Option.some Jvm.ClassFile.FieldType.boolean), [])
theorem plX18_rests : zplain MX18_rests 2 ∧ (zcodeW MX18_rests ∈ lw_all ∧ Cond.initialized MX18_rests.1.cls ∈ lw_all) := ⟨⟨by decide +kernel, by decide +kernel⟩, q1750, q144⟩
noncomputable def f_X18_rests_25 (t0 : Int) (σ : zM) : Option zO :=
  zgd (z01 t0) <|
  some (0, zi t0, σ)
theorem w_X18_rests_25 {g : zG} {lv : Nat} {out : zO} (t0 : Int) (σ : zM) {r : zO} (h : f_X18_rests_25 t0 σ = some r) (hk : (fun o : zO => o = out) r) : Gj g MX18_rests (lv + 41) 25 [] [zi t0] σ out := by
  revert h
  unfold f_X18_rests_25
  refine gb_gd (fun hb => ?_)
  intro h
  cases h
  have hk : (0, zi t0, σ) = out := hk
  subst hk
  exact gj_ret (pc := 25) (t := .boolean) dX18_rests_25 rfl ⟨rfl, rfl⟩ (fun _ => z01E hb)
noncomputable def f_X18_rests (x0 x1 x2 : Int) (σ : zM) : Option zO :=
  (zgf σ 1803 x0).bind fun v1 =>
  zci ((if zis σ 17 v1 = true then f_X16_is v1 x1 x2 σ else if zis σ 18 v1 = true then f_G_X17_is 40 0 [v1, x1, x2] σ else if zis σ 20 v1 = true then f_G_X17_is 40 1 [v1, x1, x2] σ else if zis σ 19 v1 = true then f_X18_is v1 x1 x2 σ else none)) fun v2 σ3 =>
  zgd (zis σ3 19 x0) <|
  zci (f_X18_is x0 x1 x2 σ3) fun v4 σ5 =>
  if v2 ≠ v4 then
    f_X18_rests_25 0 σ5
  else
    f_X18_rests_25 1 σ5
theorem c_X18_rests {g : zG} {lv : Nat} {x0 x1 x2 : Int} {σ : zM} {out : zO} (h : f_X18_rests x0 x1 x2 σ = some out) : Cj g (lv + 41) MX18_rests [zr x0, zi x1, zi x2] σ out := by
  refine cj_go (ls := [(0, zr x0), (1, zi x1), (2, zi x2)]) (by decide) (Nat.le_of_ble_eq_true rfl) rfl (zgen h (fun r hk => ?_))
  unfold f_X18_rests
  refine zst_ (gj_aload_n 0 (pc := 0) dX18_rests_0 rfl) ?_
  refine gb_get (pc := 1) fl1803 dX18_rests_1 q1643 (Or.inl rfl) (fun v1 => ?_)
  refine zst_ (gj_iload_n 1 (pc := 4) dX18_rests_4 rfl) ?_
  refine zst_ (gj_iload_n 2 (pc := 5) dX18_rests_5 rfl) ?_
  refine gb_callI (pc := 6) (as := [zr v1, zi x1, zi x2]) (rest := []) (zCl.ite (fun hb => zCl.of (zLk_F (M := MX18_rests) (ci := 16) (r := (RX16, TX16, 1)) (x := ⟨"LassoFinder$Formula", "is", "(II)Z"⟩) plX16_is.1 ⟨rfl, rfl⟩ (by decide) rfl rfl (zisE hb).1 (zisE hb).2 dX18_rests_6 q1712 q1734 q1732 q1736 q1714 q1713 q1735 q1733 q1731) plX16_is (Nat.le_of_ble_eq_true rfl) (fun h => c_X16_is h)) (zCl.ite (fun hb => zCl.of (zLk_F (M := MX18_rests) (ci := 17) (r := (RX17, TX17, 1)) (x := ⟨"LassoFinder$Formula", "is", "(II)Z"⟩) plX17_is.1 ⟨rfl, rfl⟩ (by decide) rfl rfl (zisE hb).1 (zisE hb).2 dX18_rests_6 q1712 q1726 q1724 q1728 q1714 q1713 q1727 q1725 q1723) plX17_is (Nat.le_of_ble_eq_true rfl) (fun h => c_G_X17_is_0 h)) (zCl.ite (fun hb => zCl.of (zLk_F (M := MX18_rests) (ci := 19) (r := (RX19, TX19, 3)) (x := ⟨"LassoFinder$Formula", "is", "(II)Z"⟩) plX19_is.1 ⟨rfl, rfl⟩ (by decide) rfl rfl (zisE hb).1 (zisE hb).2 dX18_rests_6 q1712 q1718 q1716 q1720 q1714 q1713 q1719 q1717 q1715) plX19_is (Nat.le_of_ble_eq_true rfl) (fun h => c_G_X17_is_1 h)) (zCl.ite (fun hb => zCl.of (zLk_F (M := MX18_rests) (ci := 18) (r := (RX18, TX18, 4)) (x := ⟨"LassoFinder$Formula", "is", "(II)Z"⟩) plX18_is.1 ⟨rfl, rfl⟩ (by decide) rfl rfl (zisE hb).1 (zisE hb).2 dX18_rests_6 q1712 q1740 q1738 q1742 q1714 q1713 q1741 q1739 q1737) plX18_is (Nat.le_of_ble_eq_true rfl) (fun h => c_X18_is h)) zCl.no)))) (fun v2 σ3 => ?_)
  refine zst_ (gj_aload_n 0 (pc := 11) dX18_rests_11 rfl) ?_
  refine zst_ (gj_iload_n 1 (pc := 12) dX18_rests_12 rfl) ?_
  refine zst_ (gj_iload_n 2 (pc := 13) dX18_rests_13 rfl) ?_
  refine gb_gd (fun hb => ?_)
  refine gb_callI (pc := 14) (as := [zr x0, zi x1, zi x2]) (rest := [zi v2]) (zCl.of (zLk_V (M := MX18_rests) (ci := 18) (r := (RX18, TX18, 4)) plX18_is.1 rfl rfl (zisE hb).1 (zisE hb).2 dX18_rests_14 q1751 q1740 q2470 q1742) plX18_is (Nat.le_of_ble_eq_true rfl) (fun h => c_X18_is h)) (fun v4 σ5 => ?_)
  refine gb_if (gj_icmp_ne 24 (pc := 17) dX18_rests_17 (by decide)) ?_ ?_
  · refine zst_ (gj_iconst (pc := 24) dX18_rests_24 (by decide)) ?_
    refine zst_ (gj_sub [] rfl) ?_
    exact fun h => w_X18_rests_25 0 σ5 h hk
  · refine zst_ (gj_iconst (pc := 20) dX18_rests_20 (by decide)) ?_
    refine zst_ (gj_goto 25 (pc := 21) dX18_rests_21 (by decide)) ?_
    refine zst_ (gj_sub [] rfl) ?_
    exact fun h => w_X18_rests_25 1 σ5 h hk
theorem q1746 : (Jvm.Cond.code ({ cls := "LassoFinder$FormulaReader", name := "resting", desc := "(II)I" } : Jvm.MethodName) prog_7_method_13_code (5 : Nat) (Option.some Jvm.ClassFile.FieldType.int)) ∈ lw_all := lw_g (lw_at lw_m7 206 rfl) rfl
theorem q1747 : (Jvm.Cond.methodLink "LassoFinder$FormulaReader" (147 : Nat) ({ cls := "LassoFinder$Temporal", name := "rests", desc := "(II)Z" } : Jvm.MethodName)) ∈ lw_all := lw_g (lw_at lw_m7 207 rfl) rfl
theorem q1748 : (Jvm.Cond.instanceMethod ({ cls := "LassoFinder$Temporal", name := "rests", desc := "(II)Z" } : Jvm.MethodName)) ∈ lw_all := lw_g (lw_at lw_m7 208 rfl) rfl
theorem q1749 : (Jvm.Cond.selects "LassoFinder$Temporal" ({ cls := "LassoFinder$Temporal", name := "rests", desc := "(II)Z" } : Jvm.MethodName) ({ cls := "LassoFinder$Temporal", name := "rests", desc := "(II)Z" } : Jvm.MethodName)) ∈ lw_all := lw_g (lw_at lw_m7 209 rfl) rfl
abbrev cX7_resting : ByteArray := prog_7_method_13_code
def yX7_resting : MethodName := ⟨RX7, "resting", "(II)I"⟩
theorem dX7_resting_0 : decode cX7_resting 0 = .ok (.iconst 0, 1) := by decide +kernel
theorem dX7_resting_1 : decode cX7_resting 1 = .ok (.istore_n 3, 1) := by decide +kernel
theorem dX7_resting_2 : decode cX7_resting 2 = .ok (.iconst 0, 1) := by decide +kernel
theorem dX7_resting_3 : decode cX7_resting 3 = .ok (.istore 4, 2) := by decide +kernel
theorem dX7_resting_5 : decode cX7_resting 5 = .ok (.iload 4, 2) := by decide +kernel
theorem dX7_resting_7 : decode cX7_resting 7 = .ok (.aload_n 0, 1) := by decide +kernel
theorem dX7_resting_8 : decode cX7_resting 8 = .ok (.getfield 23, 3) := by decide +kernel
theorem dX7_resting_11 : decode cX7_resting 11 = .ok (.if_icmp .ge 31, 3) := by decide +kernel
theorem dX7_resting_14 : decode cX7_resting 14 = .ok (.aload_n 0, 1) := by decide +kernel
theorem dX7_resting_15 : decode cX7_resting 15 = .ok (.getfield 11, 3) := by decide +kernel
theorem dX7_resting_18 : decode cX7_resting 18 = .ok (.iload 4, 2) := by decide +kernel
theorem dX7_resting_20 : decode cX7_resting 20 = .ok (.aaload, 1) := by decide +kernel
theorem dX7_resting_21 : decode cX7_resting 21 = .ok (.iload_n 1, 1) := by decide +kernel
theorem dX7_resting_22 : decode cX7_resting 22 = .ok (.iload_n 2, 1) := by decide +kernel
theorem dX7_resting_23 : decode cX7_resting 23 = .ok (.invokevirtual 147, 3) := by decide +kernel
theorem dX7_resting_26 : decode cX7_resting 26 = .ok (.ifCond .eq 10, 3) := by decide +kernel
theorem dX7_resting_29 : decode cX7_resting 29 = .ok (.iload_n 3, 1) := by decide +kernel
theorem dX7_resting_30 : decode cX7_resting 30 = .ok (.iconst 1, 1) := by decide +kernel
theorem dX7_resting_31 : decode cX7_resting 31 = .ok (.iload 4, 2) := by decide +kernel
theorem dX7_resting_33 : decode cX7_resting 33 = .ok (.ishl, 1) := by decide +kernel
theorem dX7_resting_34 : decode cX7_resting 34 = .ok (.ior, 1) := by decide +kernel
theorem dX7_resting_35 : decode cX7_resting 35 = .ok (.istore_n 3, 1) := by decide +kernel
theorem dX7_resting_36 : decode cX7_resting 36 = .ok (.iinc 4 1, 3) := by decide +kernel
theorem dX7_resting_39 : decode cX7_resting 39 = .ok (.goto (-34), 3) := by decide +kernel
theorem dX7_resting_42 : decode cX7_resting 42 = .ok (.iload_n 3, 1) := by decide +kernel
theorem dX7_resting_43 : decode cX7_resting 43 = .ok (.ireturn, 1) := by decide +kernel
abbrev MX7_resting : zT := (yX7_resting, cX7_resting, 5, (Option.some Jvm.ClassFile.FieldType.int), [])
theorem plX7_resting : zplain MX7_resting 2 ∧ (zcodeW MX7_resting ∈ lw_all ∧ Cond.initialized MX7_resting.1.cls ∈ lw_all) := ⟨⟨by decide +kernel, by decide +kernel⟩, q1746, q125⟩
noncomputable def f_X7_resting_42 (x3 : Int) (σ : zM) : Option zO :=
  some (0, zi x3, σ)
theorem w_X7_resting_42 {g : zG} {lv : Nat} {out : zO} (x3 : Int) (σ : zM) {r : zO} (h : f_X7_resting_42 x3 σ = some r) (hk : (fun o : zO => o = out) r) : Gj g MX7_resting (lv + 42) 42 [(3, zi x3)] [] σ out := by
  revert h
  unfold f_X7_resting_42
  refine zst_ (gj_iload_n 0 (pc := 42) dX7_resting_42 rfl) ?_
  intro h
  cases h
  have hk : (0, zi x3, σ) = out := hk
  subst hk
  exact gj_ret (pc := 43) (t := .int) dX7_resting_43 rfl ⟨rfl, rfl⟩ (fun h => h)
noncomputable def f_X7_resting_36 (x0 x1 x2 x3 x4 : Int) (σ : zM) : Option ((Int × Int × zM) ⊕ zO) :=
  zlet (zadd x4 1) fun y1 =>
  some (.inl (x3, y1, σ))
theorem w_X7_resting_36 {g : zG} {lv : Nat} {out : zO} (x0 x1 x2 x3 x4 : Int) (σ : zM) {r : ((Int × Int × zM) ⊕ zO)} (h : f_X7_resting_36 x0 x1 x2 x3 x4 σ = some r) (hk : (zKL (fun s : Int × Int × zM => Gj g MX7_resting (lv + 42) 5 [(0, zr x0), (1, zi x1), (2, zi x2), (3, zi s.1), (4, zi s.2.1)] [] s.2.2 out) (fun o : zO => o = out)) r) : Gj g MX7_resting (lv + 42) 36 [(0, zr x0), (1, zi x1), (2, zi x2), (3, zi x3), (4, zi x4)] [] σ out := by
  revert h
  unfold f_X7_resting_36
  refine gb_iinc (pc := 36) 4 (fun y1 => [(4, zi y1), (0, zr x0), (1, zi x1), (2, zi x2), (3, zi x3)]) dX7_resting_36 rfl (by decide) (fun _ => rfl) (fun y1 => ?_)
  refine zst_ (gj_goto 5 (pc := 39) dX7_resting_39 (by decide)) ?_
  refine zst_ (gj_sub [1, 2, 3, 4, 0] rfl) ?_
  intro h
  cases h
  exact hk
noncomputable def f_X7_resting_5_b (x0 x1 x2 x3 x4 : Int) (σ : zM) : Option ((Int × Int × zM) ⊕ zO) :=
  (zgf σ 707 x0).bind fun v1 =>
  if v1 ≤ x4 then
    (f_X7_resting_42 x3 σ).map (fun r => (.inr r))
  else
    (zgf σ 705 x0).bind fun v2 =>
    (zga σ 108 v2 x4).bind fun v3 =>
    zgd (zis σ 19 v3) <|
    zci (f_X18_rests v3 x1 x2 σ) fun v4 σ5 =>
    if v4 = 0 then
      f_X7_resting_36 x0 x1 x2 x3 x4 σ5
    else
      zlet ((zor x3 (zshl 1 x4))) fun y6 =>
      f_X7_resting_36 x0 x1 x2 y6 x4 σ5
noncomputable def f_X7_resting_5 (x0 x1 x2 x3 x4 : Int) (σ : zM) : Option zO :=
  zloop (fun s : Int × Int × zM => f_X7_resting_5_b x0 x1 x2 s.1 s.2.1 s.2.2) (x3, x4, σ)
theorem w_X7_resting_5_b {g : zG} {lv : Nat} {out : zO} (x0 x1 x2 x3 x4 : Int) (σ : zM) {r : ((Int × Int × zM) ⊕ zO)} (h : f_X7_resting_5_b x0 x1 x2 x3 x4 σ = some r) (hk : (zKL (fun s : Int × Int × zM => Gj g MX7_resting (lv + 42) 5 [(0, zr x0), (1, zi x1), (2, zi x2), (3, zi s.1), (4, zi s.2.1)] [] s.2.2 out) (fun o : zO => o = out)) r) : Gj g MX7_resting (lv + 42) 5 [(0, zr x0), (1, zi x1), (2, zi x2), (3, zi x3), (4, zi x4)] [] σ out := by
  revert h
  unfold f_X7_resting_5_b
  refine zst_ (gj_iload 4 (pc := 5) dX7_resting_5 rfl) ?_
  refine zst_ (gj_aload_n 0 (pc := 7) dX7_resting_7 rfl) ?_
  refine gb_get (pc := 8) fl707 dX7_resting_8 q738 (Or.inl rfl) (fun v1 => ?_)
  refine gb_if (gj_icmp_ge 42 (pc := 11) dX7_resting_11 (by decide)) ?_ ?_
  · refine zst_ (gj_sub [3] rfl) ?_
    intro h
    obtain ⟨r0, h0, rfl⟩ := zmE h
    exact w_X7_resting_42 x3 σ h0 hk
  · refine zst_ (gj_aload_n 0 (pc := 14) dX7_resting_14 rfl) ?_
    refine gb_get (pc := 15) fl705 dX7_resting_15 q735 (Or.inl rfl) (fun v2 => ?_)
    refine zst_ (gj_iload 4 (pc := 18) dX7_resting_18 rfl) ?_
    refine gb_aald (pc := 20) (k := 108) ⟨by decide, by decide⟩ dX7_resting_20 (fun v3 => ?_)
    refine zst_ (gj_iload_n 1 (pc := 21) dX7_resting_21 rfl) ?_
    refine zst_ (gj_iload_n 2 (pc := 22) dX7_resting_22 rfl) ?_
    refine gb_gd (fun hb => ?_)
    refine gb_callI (pc := 23) (as := [zr v3, zi x1, zi x2]) (rest := []) (zCl.of (zLk_V (M := MX7_resting) (ci := 18) (r := (RX18, TX18, 4)) plX18_rests.1 rfl rfl (zisE hb).1 (zisE hb).2 dX7_resting_23 q1747 q1748 q1749 q1750) plX18_rests (Nat.le_of_ble_eq_true rfl) (fun h => c_X18_rests h)) (fun v4 σ5 => ?_)
    refine gb_if (gj_if_eq 36 (pc := 26) dX7_resting_26 (by decide)) ?_ ?_
    · exact fun h => w_X7_resting_36 x0 x1 x2 x3 x4 σ5 h hk
    · refine zst_ (gj_iload_n 3 (pc := 29) dX7_resting_29 rfl) ?_
      refine zst_ (gj_iconst (pc := 30) dX7_resting_30 (by decide)) ?_
      refine zst_ (gj_iload 4 (pc := 31) dX7_resting_31 rfl) ?_
      refine zst_ (gj_ishl (pc := 33) dX7_resting_33) ?_
      refine zst_ (gj_ior (pc := 34) dX7_resting_34) ?_
      refine gb_let (fun y6 => ?_)
      refine zst_ (gj_istore_n (pc := 35) (ls' := [(3, zi y6), (0, zr x0), (1, zi x1), (2, zi x2), (4, zi x4)]) dX7_resting_35 (by decide) rfl) ?_
      refine zst_ (gj_sub [1, 2, 3, 0, 4] rfl) ?_
      exact fun h => w_X7_resting_36 x0 x1 x2 y6 x4 σ5 h hk
theorem w_X7_resting_5 {g : zG} {lv : Nat} {out : zO} (x0 x1 x2 x3 x4 : Int) (σ : zM) {r : zO} (h : f_X7_resting_5 x0 x1 x2 x3 x4 σ = some r) (hk : (fun o : zO => o = out) r) : Gj g MX7_resting (lv + 42) 5 [(0, zr x0), (1, zi x1), (2, zi x2), (3, zi x3), (4, zi x4)] [] σ out :=
  gj_loop (P := (fun s : Int × Int × zM => Gj g MX7_resting (lv + 42) 5 [(0, zr x0), (1, zi x1), (2, zi x2), (3, zi s.1), (4, zi s.2.1)] [] s.2.2 out)) (fun s x hb hx => w_X7_resting_5_b x0 x1 x2 s.1 s.2.1 s.2.2 hb hx) h hk
noncomputable def f_X7_resting (x0 x1 x2 : Int) (σ : zM) : Option zO :=
  f_X7_resting_5 x0 x1 x2 0 0 σ
theorem c_X7_resting {g : zG} {lv : Nat} {x0 x1 x2 : Int} {σ : zM} {out : zO} (h : f_X7_resting x0 x1 x2 σ = some out) : Cj g (lv + 42) MX7_resting [zr x0, zi x1, zi x2] σ out := by
  refine cj_go (ls := [(0, zr x0), (1, zi x1), (2, zi x2)]) (by decide) (Nat.le_of_ble_eq_true rfl) rfl (zgen h (fun r hk => ?_))
  unfold f_X7_resting
  refine zst_ (gj_iconst (pc := 0) dX7_resting_0 (by decide)) ?_
  refine zst_ (gj_istore_n (pc := 1) (ls' := [(3, zi 0), (0, zr x0), (1, zi x1), (2, zi x2)]) dX7_resting_1 (by decide) rfl) ?_
  refine zst_ (gj_iconst (pc := 2) dX7_resting_2 (by decide)) ?_
  refine zst_ (gj_istore (pc := 3) (ls' := [(4, zi 0), (3, zi 0), (0, zr x0), (1, zi x1), (2, zi x2)]) dX7_resting_3 (by decide) rfl) ?_
  refine zst_ (gj_sub [2, 3, 4, 1, 0] rfl) ?_
  exact fun h => w_X7_resting_5 x0 x1 x2 0 0 σ h hk
theorem q296 : (Jvm.Cond.fieldLinkNest "LassoFinder$Search" (82 : Nat) "LassoFinder$Model" "here" "LLassoFinder$Moment;" "LassoFinder") ∈ lw_tbl := lw_at lw_m1 196 rfl
theorem q306 : (Jvm.Cond.fieldLinkNest "LassoFinder$Search" (106 : Nat) "LassoFinder$Model" "to" "[I" "LassoFinder") ∈ lw_tbl := lw_at lw_m1 206 rfl
theorem q313 : (Jvm.Cond.fieldLinkNest "LassoFinder$Search" (77 : Nat) "LassoFinder$Model" "many" "I" "LassoFinder") ∈ lw_tbl := lw_at lw_m1 213 rfl
theorem q316 : (Jvm.Cond.fieldLinkNest "LassoFinder$Search" (103 : Nat) "LassoFinder$Model" "made" "I" "LassoFinder") ∈ lw_tbl := lw_at lw_m1 216 rfl
theorem q765 : (Jvm.Cond.fieldLink "LassoFinder$Search" (64 : Nat) "LassoFinder$Search" "model" "LLassoFinder$Model;") ∈ lw_all := lw_g (lw_at lw_m3 185 rfl) rfl
theorem q767 : (Jvm.Cond.fieldLink "LassoFinder$Search" (9 : Nat) "LassoFinder$Search" "props" "[I") ∈ lw_all := lw_g (lw_at lw_m3 187 rfl) rfl
theorem q768 : (Jvm.Cond.fieldLink "LassoFinder$Search" (15 : Nat) "LassoFinder$Search" "back" "[I") ∈ lw_all := lw_g (lw_at lw_m3 188 rfl) rfl
theorem q769 : (Jvm.Cond.fieldLink "LassoFinder$Search" (18 : Nat) "LassoFinder$Search" "rests" "[I") ∈ lw_all := lw_g (lw_at lw_m3 189 rfl) rfl
theorem q770 : (Jvm.Cond.fieldLink "LassoFinder$Search" (21 : Nat) "LassoFinder$Search" "into" "[I") ∈ lw_all := lw_g (lw_at lw_m3 190 rfl) rfl
theorem q771 : (Jvm.Cond.fieldLink "LassoFinder$Search" (24 : Nat) "LassoFinder$Search" "other" "[I") ∈ lw_all := lw_g (lw_at lw_m3 191 rfl) rfl
theorem q1687 : (Jvm.Cond.code ({ cls := "LassoFinder$Search", name := "prepare", desc := "()V" } : Jvm.MethodName) prog_18_method_3_code (3 : Nat) (Option.none : Option Jvm.ClassFile.FieldType)) ∈ lw_all := lw_g (lw_at lw_m7 147 rfl) rfl
theorem q1688 : (Jvm.Cond.methodLink "LassoFinder$Search" (86 : Nat) ({ cls := "LassoFinder$Model", name := "unpack", desc := "(ILLassoFinder$Moment;)V" } : Jvm.MethodName)) ∈ lw_all := lw_g (lw_at lw_m7 148 rfl) rfl
theorem q1689 : (Jvm.Cond.methodLink "LassoFinder$Search" (90 : Nat) ({ cls := "LassoFinder$FormulaReader", name := "props", desc := "(LLassoFinder$Moment;)I" } : Jvm.MethodName)) ∈ lw_all := lw_g (lw_at lw_m7 149 rfl) rfl
theorem q1690 : (Jvm.Cond.instanceMethod ({ cls := "LassoFinder$FormulaReader", name := "props", desc := "(LLassoFinder$Moment;)I" } : Jvm.MethodName)) ∈ lw_all := lw_g (lw_at lw_m7 150 rfl) rfl
theorem q1691 : (Jvm.Cond.selects "LassoFinder$FormulaReader" ({ cls := "LassoFinder$FormulaReader", name := "props", desc := "(LLassoFinder$Moment;)I" } : Jvm.MethodName) ({ cls := "LassoFinder$FormulaReader", name := "props", desc := "(LLassoFinder$Moment;)I" } : Jvm.MethodName)) ∈ lw_all := lw_g (lw_at lw_m7 151 rfl) rfl
theorem q1699 : (Jvm.Cond.methodLink "LassoFinder$Search" (93 : Nat) ({ cls := "LassoFinder$Search", name := "kinds", desc := "()I" } : Jvm.MethodName)) ∈ lw_all := lw_g (lw_at lw_m7 159 rfl) rfl
theorem q1701 : (Jvm.Cond.instanceMethod ({ cls := "LassoFinder$Search", name := "kinds", desc := "()I" } : Jvm.MethodName)) ∈ lw_all := lw_g (lw_at lw_m7 161 rfl) rfl
theorem q1703 : (Jvm.Cond.methodLink "LassoFinder$Search" (97 : Nat) ({ cls := "LassoFinder$FormulaReader", name := "back", desc := "(II)I" } : Jvm.MethodName)) ∈ lw_all := lw_g (lw_at lw_m7 163 rfl) rfl
theorem q1704 : (Jvm.Cond.instanceMethod ({ cls := "LassoFinder$FormulaReader", name := "back", desc := "(II)I" } : Jvm.MethodName)) ∈ lw_all := lw_g (lw_at lw_m7 164 rfl) rfl
theorem q1705 : (Jvm.Cond.selects "LassoFinder$FormulaReader" ({ cls := "LassoFinder$FormulaReader", name := "back", desc := "(II)I" } : Jvm.MethodName) ({ cls := "LassoFinder$FormulaReader", name := "back", desc := "(II)I" } : Jvm.MethodName)) ∈ lw_all := lw_g (lw_at lw_m7 165 rfl) rfl
theorem q1743 : (Jvm.Cond.methodLink "LassoFinder$Search" (100 : Nat) ({ cls := "LassoFinder$FormulaReader", name := "resting", desc := "(II)I" } : Jvm.MethodName)) ∈ lw_all := lw_g (lw_at lw_m7 203 rfl) rfl
theorem q1744 : (Jvm.Cond.instanceMethod ({ cls := "LassoFinder$FormulaReader", name := "resting", desc := "(II)I" } : Jvm.MethodName)) ∈ lw_all := lw_g (lw_at lw_m7 204 rfl) rfl
theorem q1745 : (Jvm.Cond.selects "LassoFinder$FormulaReader" ({ cls := "LassoFinder$FormulaReader", name := "resting", desc := "(II)I" } : Jvm.MethodName) ({ cls := "LassoFinder$FormulaReader", name := "resting", desc := "(II)I" } : Jvm.MethodName)) ∈ lw_all := lw_g (lw_at lw_m7 205 rfl) rfl
theorem fl800 : zfl 800 2 "LassoFinder$Search" "model" "LLassoFinder$Model;" true := ⟨rfl, rfl, rfl⟩
theorem fr800 {g : zG} {v : Int} : zok g (2, v) → zokt g (zft 800) v := fun h => h
theorem fl802 : zfl 802 2 "LassoFinder$Search" "props" "[I" true := ⟨rfl, rfl, rfl⟩
theorem fr802 {g : zG} {v : Int} : zok g (2, v) → zokt g (zft 802) v := fun h => h
theorem fl803 : zfl 803 2 "LassoFinder$Search" "back" "[I" true := ⟨rfl, rfl, rfl⟩
theorem fr803 {g : zG} {v : Int} : zok g (2, v) → zokt g (zft 803) v := fun h => h
theorem fl804 : zfl 804 2 "LassoFinder$Search" "rests" "[I" true := ⟨rfl, rfl, rfl⟩
theorem fr804 {g : zG} {v : Int} : zok g (2, v) → zokt g (zft 804) v := fun h => h
theorem fl805 : zfl 805 2 "LassoFinder$Search" "into" "[I" true := ⟨rfl, rfl, rfl⟩
theorem fr805 {g : zG} {v : Int} : zok g (2, v) → zokt g (zft 805) v := fun h => h
theorem fl806 : zfl 806 2 "LassoFinder$Search" "other" "[I" true := ⟨rfl, rfl, rfl⟩
theorem fr806 {g : zG} {v : Int} : zok g (2, v) → zokt g (zft 806) v := fun h => h
abbrev cX8_prepare : ByteArray := prog_18_method_3_code
def yX8_prepare : MethodName := ⟨RX8, "prepare", "()V"⟩
theorem dX8_prepare_0 : decode cX8_prepare 0 = .ok (.iconst 0, 1) := by decide +kernel
theorem dX8_prepare_1 : decode cX8_prepare 1 = .ok (.istore_n 1, 1) := by decide +kernel
theorem dX8_prepare_2 : decode cX8_prepare 2 = .ok (.iload_n 1, 1) := by decide +kernel
theorem dX8_prepare_3 : decode cX8_prepare 3 = .ok (.aload_n 0, 1) := by decide +kernel
theorem dX8_prepare_4 : decode cX8_prepare 4 = .ok (.getfield 64, 3) := by decide +kernel
theorem dX8_prepare_7 : decode cX8_prepare 7 = .ok (.getfield 77, 3) := by decide +kernel
theorem dX8_prepare_10 : decode cX8_prepare 10 = .ok (.if_icmp .ge 117, 3) := by decide +kernel
theorem dX8_prepare_13 : decode cX8_prepare 13 = .ok (.aload_n 0, 1) := by decide +kernel
theorem dX8_prepare_14 : decode cX8_prepare 14 = .ok (.getfield 64, 3) := by decide +kernel
theorem dX8_prepare_17 : decode cX8_prepare 17 = .ok (.iload_n 1, 1) := by decide +kernel
theorem dX8_prepare_18 : decode cX8_prepare 18 = .ok (.aload_n 0, 1) := by decide +kernel
theorem dX8_prepare_19 : decode cX8_prepare 19 = .ok (.getfield 64, 3) := by decide +kernel
theorem dX8_prepare_22 : decode cX8_prepare 22 = .ok (.getfield 82, 3) := by decide +kernel
theorem dX8_prepare_25 : decode cX8_prepare 25 = .ok (.invokevirtual 86, 3) := by decide +kernel
theorem dX8_prepare_28 : decode cX8_prepare 28 = .ok (.aload_n 0, 1) := by decide +kernel
theorem dX8_prepare_29 : decode cX8_prepare 29 = .ok (.getfield 9, 3) := by decide +kernel
theorem dX8_prepare_32 : decode cX8_prepare 32 = .ok (.iload_n 1, 1) := by decide +kernel
theorem dX8_prepare_33 : decode cX8_prepare 33 = .ok (.aload_n 0, 1) := by decide +kernel
theorem dX8_prepare_34 : decode cX8_prepare 34 = .ok (.getfield 68, 3) := by decide +kernel
theorem dX8_prepare_37 : decode cX8_prepare 37 = .ok (.aload_n 0, 1) := by decide +kernel
theorem dX8_prepare_38 : decode cX8_prepare 38 = .ok (.getfield 64, 3) := by decide +kernel
theorem dX8_prepare_41 : decode cX8_prepare 41 = .ok (.getfield 82, 3) := by decide +kernel
theorem dX8_prepare_44 : decode cX8_prepare 44 = .ok (.invokevirtual 90, 3) := by decide +kernel
theorem dX8_prepare_47 : decode cX8_prepare 47 = .ok (.iastore, 1) := by decide +kernel
theorem dX8_prepare_48 : decode cX8_prepare 48 = .ok (.aload_n 0, 1) := by decide +kernel
theorem dX8_prepare_49 : decode cX8_prepare 49 = .ok (.getfield 21, 3) := by decide +kernel
theorem dX8_prepare_52 : decode cX8_prepare 52 = .ok (.iload_n 1, 1) := by decide +kernel
theorem dX8_prepare_53 : decode cX8_prepare 53 = .ok (.iconst 0, 1) := by decide +kernel
theorem dX8_prepare_54 : decode cX8_prepare 54 = .ok (.iastore, 1) := by decide +kernel
theorem dX8_prepare_55 : decode cX8_prepare 55 = .ok (.iconst 0, 1) := by decide +kernel
theorem dX8_prepare_56 : decode cX8_prepare 56 = .ok (.istore_n 2, 1) := by decide +kernel
theorem dX8_prepare_57 : decode cX8_prepare 57 = .ok (.iload_n 2, 1) := by decide +kernel
theorem dX8_prepare_58 : decode cX8_prepare 58 = .ok (.aload_n 0, 1) := by decide +kernel
theorem dX8_prepare_59 : decode cX8_prepare 59 = .ok (.invokevirtual 93, 3) := by decide +kernel
theorem dX8_prepare_62 : decode cX8_prepare 62 = .ok (.if_icmp .ge 59, 3) := by decide +kernel
theorem dX8_prepare_65 : decode cX8_prepare 65 = .ok (.aload_n 0, 1) := by decide +kernel
theorem dX8_prepare_66 : decode cX8_prepare 66 = .ok (.getfield 15, 3) := by decide +kernel
theorem dX8_prepare_69 : decode cX8_prepare 69 = .ok (.bipush 8, 2) := by decide +kernel
theorem dX8_prepare_71 : decode cX8_prepare 71 = .ok (.iload_n 1, 1) := by decide +kernel
theorem dX8_prepare_72 : decode cX8_prepare 72 = .ok (.imul, 1) := by decide +kernel
theorem dX8_prepare_73 : decode cX8_prepare 73 = .ok (.iload_n 2, 1) := by decide +kernel
theorem dX8_prepare_74 : decode cX8_prepare 74 = .ok (.iadd, 1) := by decide +kernel
theorem dX8_prepare_75 : decode cX8_prepare 75 = .ok (.aload_n 0, 1) := by decide +kernel
theorem dX8_prepare_76 : decode cX8_prepare 76 = .ok (.getfield 68, 3) := by decide +kernel
theorem dX8_prepare_79 : decode cX8_prepare 79 = .ok (.aload_n 0, 1) := by decide +kernel
theorem dX8_prepare_80 : decode cX8_prepare 80 = .ok (.getfield 9, 3) := by decide +kernel
theorem dX8_prepare_83 : decode cX8_prepare 83 = .ok (.iload_n 1, 1) := by decide +kernel
theorem dX8_prepare_84 : decode cX8_prepare 84 = .ok (.iaload, 1) := by decide +kernel
theorem dX8_prepare_85 : decode cX8_prepare 85 = .ok (.iload_n 2, 1) := by decide +kernel
theorem dX8_prepare_86 : decode cX8_prepare 86 = .ok (.invokevirtual 97, 3) := by decide +kernel
theorem dX8_prepare_89 : decode cX8_prepare 89 = .ok (.iastore, 1) := by decide +kernel
theorem dX8_prepare_90 : decode cX8_prepare 90 = .ok (.aload_n 0, 1) := by decide +kernel
theorem dX8_prepare_91 : decode cX8_prepare 91 = .ok (.getfield 18, 3) := by decide +kernel
theorem dX8_prepare_94 : decode cX8_prepare 94 = .ok (.bipush 8, 2) := by decide +kernel
theorem dX8_prepare_96 : decode cX8_prepare 96 = .ok (.iload_n 1, 1) := by decide +kernel
theorem dX8_prepare_97 : decode cX8_prepare 97 = .ok (.imul, 1) := by decide +kernel
theorem dX8_prepare_98 : decode cX8_prepare 98 = .ok (.iload_n 2, 1) := by decide +kernel
theorem dX8_prepare_99 : decode cX8_prepare 99 = .ok (.iadd, 1) := by decide +kernel
theorem dX8_prepare_100 : decode cX8_prepare 100 = .ok (.aload_n 0, 1) := by decide +kernel
theorem dX8_prepare_101 : decode cX8_prepare 101 = .ok (.getfield 68, 3) := by decide +kernel
theorem dX8_prepare_104 : decode cX8_prepare 104 = .ok (.aload_n 0, 1) := by decide +kernel
theorem dX8_prepare_105 : decode cX8_prepare 105 = .ok (.getfield 9, 3) := by decide +kernel
theorem dX8_prepare_108 : decode cX8_prepare 108 = .ok (.iload_n 1, 1) := by decide +kernel
theorem dX8_prepare_109 : decode cX8_prepare 109 = .ok (.iaload, 1) := by decide +kernel
theorem dX8_prepare_110 : decode cX8_prepare 110 = .ok (.iload_n 2, 1) := by decide +kernel
theorem dX8_prepare_111 : decode cX8_prepare 111 = .ok (.invokevirtual 100, 3) := by decide +kernel
theorem dX8_prepare_114 : decode cX8_prepare 114 = .ok (.iastore, 1) := by decide +kernel
theorem dX8_prepare_115 : decode cX8_prepare 115 = .ok (.iinc 2 1, 3) := by decide +kernel
theorem dX8_prepare_118 : decode cX8_prepare 118 = .ok (.goto (-61), 3) := by decide +kernel
theorem dX8_prepare_121 : decode cX8_prepare 121 = .ok (.iinc 1 1, 3) := by decide +kernel
theorem dX8_prepare_124 : decode cX8_prepare 124 = .ok (.goto (-122), 3) := by decide +kernel
theorem dX8_prepare_127 : decode cX8_prepare 127 = .ok (.aload_n 0, 1) := by decide +kernel
theorem dX8_prepare_128 : decode cX8_prepare 128 = .ok (.getfield 64, 3) := by decide +kernel
theorem dX8_prepare_131 : decode cX8_prepare 131 = .ok (.getfield 103, 3) := by decide +kernel
theorem dX8_prepare_134 : decode cX8_prepare 134 = .ok (.iconst 1, 1) := by decide +kernel
theorem dX8_prepare_135 : decode cX8_prepare 135 = .ok (.isub, 1) := by decide +kernel
theorem dX8_prepare_136 : decode cX8_prepare 136 = .ok (.istore_n 1, 1) := by decide +kernel
theorem dX8_prepare_137 : decode cX8_prepare 137 = .ok (.iload_n 1, 1) := by decide +kernel
theorem dX8_prepare_138 : decode cX8_prepare 138 = .ok (.ifCond .lt 46, 3) := by decide +kernel
theorem dX8_prepare_141 : decode cX8_prepare 141 = .ok (.aload_n 0, 1) := by decide +kernel
theorem dX8_prepare_142 : decode cX8_prepare 142 = .ok (.getfield 24, 3) := by decide +kernel
theorem dX8_prepare_145 : decode cX8_prepare 145 = .ok (.iload_n 1, 1) := by decide +kernel
theorem dX8_prepare_146 : decode cX8_prepare 146 = .ok (.aload_n 0, 1) := by decide +kernel
theorem dX8_prepare_147 : decode cX8_prepare 147 = .ok (.getfield 21, 3) := by decide +kernel
theorem dX8_prepare_150 : decode cX8_prepare 150 = .ok (.aload_n 0, 1) := by decide +kernel
theorem dX8_prepare_151 : decode cX8_prepare 151 = .ok (.getfield 64, 3) := by decide +kernel
theorem dX8_prepare_154 : decode cX8_prepare 154 = .ok (.getfield 106, 3) := by decide +kernel
theorem dX8_prepare_157 : decode cX8_prepare 157 = .ok (.iload_n 1, 1) := by decide +kernel
theorem dX8_prepare_158 : decode cX8_prepare 158 = .ok (.iaload, 1) := by decide +kernel
theorem dX8_prepare_159 : decode cX8_prepare 159 = .ok (.iaload, 1) := by decide +kernel
theorem dX8_prepare_160 : decode cX8_prepare 160 = .ok (.iastore, 1) := by decide +kernel
theorem dX8_prepare_161 : decode cX8_prepare 161 = .ok (.aload_n 0, 1) := by decide +kernel
theorem dX8_prepare_162 : decode cX8_prepare 162 = .ok (.getfield 21, 3) := by decide +kernel
theorem dX8_prepare_165 : decode cX8_prepare 165 = .ok (.aload_n 0, 1) := by decide +kernel
theorem dX8_prepare_166 : decode cX8_prepare 166 = .ok (.getfield 64, 3) := by decide +kernel
theorem dX8_prepare_169 : decode cX8_prepare 169 = .ok (.getfield 106, 3) := by decide +kernel
theorem dX8_prepare_172 : decode cX8_prepare 172 = .ok (.iload_n 1, 1) := by decide +kernel
theorem dX8_prepare_173 : decode cX8_prepare 173 = .ok (.iaload, 1) := by decide +kernel
theorem dX8_prepare_174 : decode cX8_prepare 174 = .ok (.iconst 1, 1) := by decide +kernel
theorem dX8_prepare_175 : decode cX8_prepare 175 = .ok (.iload_n 1, 1) := by decide +kernel
theorem dX8_prepare_176 : decode cX8_prepare 176 = .ok (.iadd, 1) := by decide +kernel
theorem dX8_prepare_177 : decode cX8_prepare 177 = .ok (.iastore, 1) := by decide +kernel
theorem dX8_prepare_178 : decode cX8_prepare 178 = .ok (.iinc 1 (-1), 3) := by decide +kernel
theorem dX8_prepare_181 : decode cX8_prepare 181 = .ok (.goto (-44), 3) := by decide +kernel
theorem dX8_prepare_184 : decode cX8_prepare 184 = .ok (.return_, 1) := by decide +kernel
abbrev MX8_prepare : zT := (yX8_prepare, cX8_prepare, 3, (Option.none : Option Jvm.ClassFile.FieldType), [])
theorem plX8_prepare : zplain MX8_prepare 0 ∧ (zcodeW MX8_prepare ∈ lw_all ∧ Cond.initialized MX8_prepare.1.cls ∈ lw_all) := ⟨⟨by decide +kernel, by decide +kernel⟩, q1687, q126⟩
noncomputable def f_X8_prepare_184 (σ : zM) : Option zO :=
  some (0, ((3, 0) : zV), σ)
theorem w_X8_prepare_184 {g : zG} {lv : Nat} {out : zO} (σ : zM) {r : zO} (h : f_X8_prepare_184  σ = some r) (hk : (fun o : zO => o = out) r) : Gj g MX8_prepare (lv + 43) 184 [] [] σ out := by
  revert h
  unfold f_X8_prepare_184
  intro h
  cases h
  have hk : (0, ((3, 0) : zV), σ) = out := hk
  subst hk
  exact gj_vret (pc := 184) dX8_prepare_184 rfl
noncomputable def f_X8_prepare_137_b (x0 x1 : Int) (σ : zM) : Option ((Int × zM) ⊕ zO) :=
  if x1 < 0 then
    (f_X8_prepare_184 σ).map (fun r => (.inr r))
  else
    (zgf σ 806 x0).bind fun v1 =>
    (zgf σ 805 x0).bind fun v2 =>
    (zgf σ 800 x0).bind fun v3 =>
    (zgf σ 217 v3).bind fun v4 =>
    (zga σ 101 v4 x1).bind fun v5 =>
    (zga σ 101 v2 v5).bind fun v6 =>
    (zpa σ 101 v1 x1 v6).bind fun σ7 =>
    (zgf σ7 805 x0).bind fun v8 =>
    (zgf σ7 800 x0).bind fun v9 =>
    (zgf σ7 217 v9).bind fun v10 =>
    (zga σ7 101 v10 x1).bind fun v11 =>
    (zpa σ7 101 v8 v11 (zadd 1 x1)).bind fun σ12 =>
    zlet (zadd x1 (-1)) fun y13 =>
    some (.inl (y13, σ12))
noncomputable def f_X8_prepare_137 (x0 x1 : Int) (σ : zM) : Option zO :=
  zloop (fun s : Int × zM => f_X8_prepare_137_b x0 s.1 s.2) (x1, σ)
theorem w_X8_prepare_137_b {g : zG} {lv : Nat} {out : zO} (x0 x1 : Int) (σ : zM) {r : ((Int × zM) ⊕ zO)} (h : f_X8_prepare_137_b x0 x1 σ = some r) (hk : (zKL (fun s : Int × zM => Gj g MX8_prepare (lv + 43) 137 [(0, zr x0), (1, zi s.1)] [] s.2 out) (fun o : zO => o = out)) r) : Gj g MX8_prepare (lv + 43) 137 [(0, zr x0), (1, zi x1)] [] σ out := by
  revert h
  unfold f_X8_prepare_137_b
  refine zst_ (gj_iload_n 1 (pc := 137) dX8_prepare_137 rfl) ?_
  refine gb_if (gj_if_lt 184 (pc := 138) dX8_prepare_138 (by decide)) ?_ ?_
  · refine zst_ (gj_sub [] rfl) ?_
    intro h
    obtain ⟨r0, h0, rfl⟩ := zmE h
    exact w_X8_prepare_184 σ h0 hk
  · refine zst_ (gj_aload_n 0 (pc := 141) dX8_prepare_141 rfl) ?_
    refine gb_get (pc := 142) fl806 dX8_prepare_142 q771 (Or.inl rfl) (fun v1 => ?_)
    refine zst_ (gj_iload_n 1 (pc := 145) dX8_prepare_145 rfl) ?_
    refine zst_ (gj_aload_n 0 (pc := 146) dX8_prepare_146 rfl) ?_
    refine gb_get (pc := 147) fl805 dX8_prepare_147 q770 (Or.inl rfl) (fun v2 => ?_)
    refine zst_ (gj_aload_n 0 (pc := 150) dX8_prepare_150 rfl) ?_
    refine gb_get (pc := 151) fl800 dX8_prepare_151 q765 (Or.inl rfl) (fun v3 => ?_)
    refine gb_getNe (pc := 154) fl217 dX8_prepare_154 q306 (Or.inl rfl) (fun v4 => ?_)
    refine zst_ (gj_iload_n 1 (pc := 157) dX8_prepare_157 rfl) ?_
    refine gb_iald (pc := 158) dX8_prepare_158 (fun v5 => ?_)
    refine gb_iald (pc := 159) dX8_prepare_159 (fun v6 => ?_)
    refine gb_iast (pc := 160) dX8_prepare_160 (fun σ7 => ?_)
    refine zst_ (gj_aload_n 0 (pc := 161) dX8_prepare_161 rfl) ?_
    refine gb_get (pc := 162) fl805 dX8_prepare_162 q770 (Or.inl rfl) (fun v8 => ?_)
    refine zst_ (gj_aload_n 0 (pc := 165) dX8_prepare_165 rfl) ?_
    refine gb_get (pc := 166) fl800 dX8_prepare_166 q765 (Or.inl rfl) (fun v9 => ?_)
    refine gb_getNe (pc := 169) fl217 dX8_prepare_169 q306 (Or.inl rfl) (fun v10 => ?_)
    refine zst_ (gj_iload_n 1 (pc := 172) dX8_prepare_172 rfl) ?_
    refine gb_iald (pc := 173) dX8_prepare_173 (fun v11 => ?_)
    refine zst_ (gj_iconst (pc := 174) dX8_prepare_174 (by decide)) ?_
    refine zst_ (gj_iload_n 1 (pc := 175) dX8_prepare_175 rfl) ?_
    refine zst_ (gj_iadd (pc := 176) dX8_prepare_176) ?_
    refine gb_iast (pc := 177) dX8_prepare_177 (fun σ12 => ?_)
    refine gb_iinc (pc := 178) 1 (fun y13 => [(1, zi y13), (0, zr x0)]) dX8_prepare_178 rfl (by decide) (fun _ => rfl) (fun y13 => ?_)
    refine zst_ (gj_goto 137 (pc := 181) dX8_prepare_181 (by decide)) ?_
    refine zst_ (gj_sub [1, 0] rfl) ?_
    intro h
    cases h
    exact hk
theorem w_X8_prepare_137 {g : zG} {lv : Nat} {out : zO} (x0 x1 : Int) (σ : zM) {r : zO} (h : f_X8_prepare_137 x0 x1 σ = some r) (hk : (fun o : zO => o = out) r) : Gj g MX8_prepare (lv + 43) 137 [(0, zr x0), (1, zi x1)] [] σ out :=
  gj_loop (P := (fun s : Int × zM => Gj g MX8_prepare (lv + 43) 137 [(0, zr x0), (1, zi s.1)] [] s.2 out)) (fun s x hb hx => w_X8_prepare_137_b x0 s.1 s.2 hb hx) h hk
noncomputable def f_X8_prepare_127 (x0 : Int) (σ : zM) : Option zO :=
  (zgf σ 800 x0).bind fun v1 =>
  (zgf σ 221 v1).bind fun v2 =>
  zlet ((zsub v2 1)) fun y3 =>
  f_X8_prepare_137 x0 y3 σ
theorem w_X8_prepare_127 {g : zG} {lv : Nat} {out : zO} (x0 : Int) (σ : zM) {r : zO} (h : f_X8_prepare_127 x0 σ = some r) (hk : (fun o : zO => o = out) r) : Gj g MX8_prepare (lv + 43) 127 [(0, zr x0)] [] σ out := by
  revert h
  unfold f_X8_prepare_127
  refine zst_ (gj_aload_n 0 (pc := 127) dX8_prepare_127 rfl) ?_
  refine gb_get (pc := 128) fl800 dX8_prepare_128 q765 (Or.inl rfl) (fun v1 => ?_)
  refine gb_getNe (pc := 131) fl221 dX8_prepare_131 q316 (Or.inl rfl) (fun v2 => ?_)
  refine zst_ (gj_iconst (pc := 134) dX8_prepare_134 (by decide)) ?_
  refine zst_ (gj_isub (pc := 135) dX8_prepare_135) ?_
  refine gb_let (fun y3 => ?_)
  refine zst_ (gj_istore_n (pc := 136) (ls' := [(1, zi y3), (0, zr x0)]) dX8_prepare_136 (by decide) rfl) ?_
  refine zst_ (gj_sub [1, 0] rfl) ?_
  exact fun h => w_X8_prepare_137 x0 y3 σ h hk
noncomputable def f_X8_prepare_121 (x0 x1 : Int) (σ : zM) : Option ((Int × zM) ⊕ zO) :=
  zlet (zadd x1 1) fun y1 =>
  some (.inl (y1, σ))
theorem w_X8_prepare_121 {g : zG} {lv : Nat} {out : zO} (x0 x1 : Int) (σ : zM) {r : ((Int × zM) ⊕ zO)} (h : f_X8_prepare_121 x0 x1 σ = some r) (hk : (zKL (fun s : Int × zM => Gj g MX8_prepare (lv + 43) 2 [(0, zr x0), (1, zi s.1)] [] s.2 out) (fun o : zO => o = out)) r) : Gj g MX8_prepare (lv + 43) 121 [(0, zr x0), (1, zi x1)] [] σ out := by
  revert h
  unfold f_X8_prepare_121
  refine gb_iinc (pc := 121) 1 (fun y1 => [(1, zi y1), (0, zr x0)]) dX8_prepare_121 rfl (by decide) (fun _ => rfl) (fun y1 => ?_)
  refine zst_ (gj_goto 2 (pc := 124) dX8_prepare_124 (by decide)) ?_
  refine zst_ (gj_sub [1, 0] rfl) ?_
  intro h
  cases h
  exact hk
noncomputable def f_X8_prepare_57_b (x0 x1 x2 : Int) (σ : zM) : Option ((Int × zM) ⊕ ((Int × zM) ⊕ zO)) :=
  zgd (zis σ 9 x0) <|
  zci (f_X8_kinds x0 σ) fun v1 σ2 =>
  if v1 ≤ x2 then
    (f_X8_prepare_121 x0 x1 σ2).map (fun r => (.inr r))
  else
    (zgf σ2 803 x0).bind fun v3 =>
    (zgf σ2 801 x0).bind fun v4 =>
    (zgf σ2 802 x0).bind fun v5 =>
    (zga σ2 101 v5 x1).bind fun v6 =>
    zgd (zis σ2 8 v4) <|
    zci (f_X7_back v4 v6 x2 σ2) fun v7 σ8 =>
    (zpa σ8 101 v3 (zadd (zmul 8 x1) x2) v7).bind fun σ9 =>
    (zgf σ9 804 x0).bind fun v10 =>
    (zgf σ9 801 x0).bind fun v11 =>
    (zgf σ9 802 x0).bind fun v12 =>
    (zga σ9 101 v12 x1).bind fun v13 =>
    zgd (zis σ9 8 v11) <|
    zci (f_X7_resting v11 v13 x2 σ9) fun v14 σ15 =>
    (zpa σ15 101 v10 (zadd (zmul 8 x1) x2) v14).bind fun σ16 =>
    zlet (zadd x2 1) fun y17 =>
    some (.inl (y17, σ16))
noncomputable def f_X8_prepare_57 (x0 x1 x2 : Int) (σ : zM) : Option ((Int × zM) ⊕ zO) :=
  zloop (fun s : Int × zM => f_X8_prepare_57_b x0 x1 s.1 s.2) (x2, σ)
theorem w_X8_prepare_57_b {g : zG} {lv : Nat} {out : zO} (x0 x1 x2 : Int) (σ : zM) {r : ((Int × zM) ⊕ ((Int × zM) ⊕ zO))} (h : f_X8_prepare_57_b x0 x1 x2 σ = some r) (hk : (zKL (fun s : Int × zM => Gj g MX8_prepare (lv + 43) 57 [(0, zr x0), (1, zi x1), (2, zi s.1)] [] s.2 out) (zKL (fun s : Int × zM => Gj g MX8_prepare (lv + 43) 2 [(0, zr x0), (1, zi s.1)] [] s.2 out) (fun o : zO => o = out))) r) : Gj g MX8_prepare (lv + 43) 57 [(0, zr x0), (1, zi x1), (2, zi x2)] [] σ out := by
  revert h
  unfold f_X8_prepare_57_b
  refine zst_ (gj_iload_n 2 (pc := 57) dX8_prepare_57 rfl) ?_
  refine zst_ (gj_aload_n 0 (pc := 58) dX8_prepare_58 rfl) ?_
  refine gb_gd (fun hb => ?_)
  refine gb_callI (pc := 59) (as := [zr x0]) (rest := [zi x2]) (zCl.of (zLk_V (M := MX8_prepare) (ci := 8) (r := (RX8, TX8, 23)) plX8_kinds.1 rfl rfl (zisE hb).1 (zisE hb).2 dX8_prepare_59 q1699 q1701 qs30 q1702) plX8_kinds (Nat.le_of_ble_eq_true rfl) (fun h => c_X8_kinds h)) (fun v1 σ2 => ?_)
  refine gb_if (gj_icmp_ge 121 (pc := 62) dX8_prepare_62 (by decide)) ?_ ?_
  · refine zst_ (gj_sub [0, 1] rfl) ?_
    intro h
    obtain ⟨r0, h0, rfl⟩ := zmE h
    exact w_X8_prepare_121 x0 x1 σ2 h0 hk
  · refine zst_ (gj_aload_n 0 (pc := 65) dX8_prepare_65 rfl) ?_
    refine gb_get (pc := 66) fl803 dX8_prepare_66 q768 (Or.inl rfl) (fun v3 => ?_)
    refine zst_ (gj_bipush (pc := 69) dX8_prepare_69 ⟨rfl, by decide⟩) ?_
    refine zst_ (gj_iload_n 1 (pc := 71) dX8_prepare_71 rfl) ?_
    refine zst_ (gj_imul (pc := 72) dX8_prepare_72) ?_
    refine zst_ (gj_iload_n 2 (pc := 73) dX8_prepare_73 rfl) ?_
    refine zst_ (gj_iadd (pc := 74) dX8_prepare_74) ?_
    refine zst_ (gj_aload_n 0 (pc := 75) dX8_prepare_75 rfl) ?_
    refine gb_get (pc := 76) fl801 dX8_prepare_76 q766 (Or.inl rfl) (fun v4 => ?_)
    refine zst_ (gj_aload_n 0 (pc := 79) dX8_prepare_79 rfl) ?_
    refine gb_get (pc := 80) fl802 dX8_prepare_80 q767 (Or.inl rfl) (fun v5 => ?_)
    refine zst_ (gj_iload_n 1 (pc := 83) dX8_prepare_83 rfl) ?_
    refine gb_iald (pc := 84) dX8_prepare_84 (fun v6 => ?_)
    refine zst_ (gj_iload_n 2 (pc := 85) dX8_prepare_85 rfl) ?_
    refine gb_gd (fun hb => ?_)
    refine gb_callI (pc := 86) (as := [zr v4, zi v6, zi x2]) (rest := [zi (zadd (zmul 8 x1) x2), zr v3]) (zCl.of (zLk_V (M := MX8_prepare) (ci := 7) (r := (RX7, TX7, 10)) plX7_back.1 rfl rfl (zisE hb).1 (zisE hb).2 dX8_prepare_86 q1703 q1704 q1705 q1706) plX7_back (Nat.le_of_ble_eq_true rfl) (fun h => c_X7_back h)) (fun v7 σ8 => ?_)
    refine gb_iast (pc := 89) dX8_prepare_89 (fun σ9 => ?_)
    refine zst_ (gj_aload_n 0 (pc := 90) dX8_prepare_90 rfl) ?_
    refine gb_get (pc := 91) fl804 dX8_prepare_91 q769 (Or.inl rfl) (fun v10 => ?_)
    refine zst_ (gj_bipush (pc := 94) dX8_prepare_94 ⟨rfl, by decide⟩) ?_
    refine zst_ (gj_iload_n 1 (pc := 96) dX8_prepare_96 rfl) ?_
    refine zst_ (gj_imul (pc := 97) dX8_prepare_97) ?_
    refine zst_ (gj_iload_n 2 (pc := 98) dX8_prepare_98 rfl) ?_
    refine zst_ (gj_iadd (pc := 99) dX8_prepare_99) ?_
    refine zst_ (gj_aload_n 0 (pc := 100) dX8_prepare_100 rfl) ?_
    refine gb_get (pc := 101) fl801 dX8_prepare_101 q766 (Or.inl rfl) (fun v11 => ?_)
    refine zst_ (gj_aload_n 0 (pc := 104) dX8_prepare_104 rfl) ?_
    refine gb_get (pc := 105) fl802 dX8_prepare_105 q767 (Or.inl rfl) (fun v12 => ?_)
    refine zst_ (gj_iload_n 1 (pc := 108) dX8_prepare_108 rfl) ?_
    refine gb_iald (pc := 109) dX8_prepare_109 (fun v13 => ?_)
    refine zst_ (gj_iload_n 2 (pc := 110) dX8_prepare_110 rfl) ?_
    refine gb_gd (fun hb => ?_)
    refine gb_callI (pc := 111) (as := [zr v11, zi v13, zi x2]) (rest := [zi (zadd (zmul 8 x1) x2), zr v10]) (zCl.of (zLk_V (M := MX8_prepare) (ci := 7) (r := (RX7, TX7, 10)) plX7_resting.1 rfl rfl (zisE hb).1 (zisE hb).2 dX8_prepare_111 q1743 q1744 q1745 q1746) plX7_resting (Nat.le_of_ble_eq_true rfl) (fun h => c_X7_resting h)) (fun v14 σ15 => ?_)
    refine gb_iast (pc := 114) dX8_prepare_114 (fun σ16 => ?_)
    refine gb_iinc (pc := 115) 2 (fun y17 => [(2, zi y17), (0, zr x0), (1, zi x1)]) dX8_prepare_115 rfl (by decide) (fun _ => rfl) (fun y17 => ?_)
    refine zst_ (gj_goto 57 (pc := 118) dX8_prepare_118 (by decide)) ?_
    refine zst_ (gj_sub [1, 2, 0] rfl) ?_
    intro h
    cases h
    exact hk
theorem w_X8_prepare_57 {g : zG} {lv : Nat} {out : zO} (x0 x1 x2 : Int) (σ : zM) {r : ((Int × zM) ⊕ zO)} (h : f_X8_prepare_57 x0 x1 x2 σ = some r) (hk : (zKL (fun s : Int × zM => Gj g MX8_prepare (lv + 43) 2 [(0, zr x0), (1, zi s.1)] [] s.2 out) (fun o : zO => o = out)) r) : Gj g MX8_prepare (lv + 43) 57 [(0, zr x0), (1, zi x1), (2, zi x2)] [] σ out :=
  gj_loop (P := (fun s : Int × zM => Gj g MX8_prepare (lv + 43) 57 [(0, zr x0), (1, zi x1), (2, zi s.1)] [] s.2 out)) (fun s x hb hx => w_X8_prepare_57_b x0 x1 s.1 s.2 hb hx) h hk
noncomputable def f_X8_prepare_2_b (x0 x1 : Int) (σ : zM) : Option ((Int × zM) ⊕ zO) :=
  (zgf σ 800 x0).bind fun v1 =>
  (zgf σ 220 v1).bind fun v2 =>
  if v2 ≤ x1 then
    (f_X8_prepare_127 x0 σ).map (fun r => (.inr r))
  else
    (zgf σ 800 x0).bind fun v3 =>
    (zgf σ 800 x0).bind fun v4 =>
    (zgf σ 211 v4).bind fun v5 =>
    zgd (zis σ 3 v3) <|
    zcv (f_X2_unpack v3 x1 v5 σ) fun σ6 =>
    (zgf σ6 802 x0).bind fun v7 =>
    (zgf σ6 801 x0).bind fun v8 =>
    (zgf σ6 800 x0).bind fun v9 =>
    (zgf σ6 211 v9).bind fun v10 =>
    zgd (zis σ6 8 v8) <|
    zci (f_X7_props v8 v10 σ6) fun v11 σ12 =>
    (zpa σ12 101 v7 x1 v11).bind fun σ13 =>
    (zgf σ13 805 x0).bind fun v14 =>
    (zpa σ13 101 v14 x1 0).bind fun σ15 =>
    f_X8_prepare_57 x0 x1 0 σ15
noncomputable def f_X8_prepare_2 (x0 x1 : Int) (σ : zM) : Option zO :=
  zloop (fun s : Int × zM => f_X8_prepare_2_b x0 s.1 s.2) (x1, σ)
theorem w_X8_prepare_2_b {g : zG} {lv : Nat} {out : zO} (x0 x1 : Int) (σ : zM) {r : ((Int × zM) ⊕ zO)} (h : f_X8_prepare_2_b x0 x1 σ = some r) (hk : (zKL (fun s : Int × zM => Gj g MX8_prepare (lv + 43) 2 [(0, zr x0), (1, zi s.1)] [] s.2 out) (fun o : zO => o = out)) r) : Gj g MX8_prepare (lv + 43) 2 [(0, zr x0), (1, zi x1)] [] σ out := by
  revert h
  unfold f_X8_prepare_2_b
  refine zst_ (gj_iload_n 1 (pc := 2) dX8_prepare_2 rfl) ?_
  refine zst_ (gj_aload_n 0 (pc := 3) dX8_prepare_3 rfl) ?_
  refine gb_get (pc := 4) fl800 dX8_prepare_4 q765 (Or.inl rfl) (fun v1 => ?_)
  refine gb_getNe (pc := 7) fl220 dX8_prepare_7 q313 (Or.inl rfl) (fun v2 => ?_)
  refine gb_if (gj_icmp_ge 127 (pc := 10) dX8_prepare_10 (by decide)) ?_ ?_
  · refine zst_ (gj_sub [0] rfl) ?_
    intro h
    obtain ⟨r0, h0, rfl⟩ := zmE h
    exact w_X8_prepare_127 x0 σ h0 hk
  · refine zst_ (gj_aload_n 0 (pc := 13) dX8_prepare_13 rfl) ?_
    refine gb_get (pc := 14) fl800 dX8_prepare_14 q765 (Or.inl rfl) (fun v3 => ?_)
    refine zst_ (gj_iload_n 1 (pc := 17) dX8_prepare_17 rfl) ?_
    refine zst_ (gj_aload_n 0 (pc := 18) dX8_prepare_18 rfl) ?_
    refine gb_get (pc := 19) fl800 dX8_prepare_19 q765 (Or.inl rfl) (fun v4 => ?_)
    refine gb_getNe (pc := 22) fl211 dX8_prepare_22 q296 (Or.inl rfl) (fun v5 => ?_)
    refine gb_gd (fun hb => ?_)
    refine gb_callV (pc := 25) (as := [zr v3, zi x1, zr v5]) (rest := []) (zCl.of (zLk_V (M := MX8_prepare) (ci := 2) (r := (RX2, TX2, 22)) plX2_unpack.1 rfl rfl (zisE hb).1 (zisE hb).2 dX8_prepare_25 q1688 q934 q935 q936) plX2_unpack (Nat.le_of_ble_eq_true rfl) (fun h => c_X2_unpack h)) (fun σ6 => ?_)
    refine zst_ (gj_aload_n 0 (pc := 28) dX8_prepare_28 rfl) ?_
    refine gb_get (pc := 29) fl802 dX8_prepare_29 q767 (Or.inl rfl) (fun v7 => ?_)
    refine zst_ (gj_iload_n 1 (pc := 32) dX8_prepare_32 rfl) ?_
    refine zst_ (gj_aload_n 0 (pc := 33) dX8_prepare_33 rfl) ?_
    refine gb_get (pc := 34) fl801 dX8_prepare_34 q766 (Or.inl rfl) (fun v8 => ?_)
    refine zst_ (gj_aload_n 0 (pc := 37) dX8_prepare_37 rfl) ?_
    refine gb_get (pc := 38) fl800 dX8_prepare_38 q765 (Or.inl rfl) (fun v9 => ?_)
    refine gb_getNe (pc := 41) fl211 dX8_prepare_41 q296 (Or.inl rfl) (fun v10 => ?_)
    refine gb_gd (fun hb => ?_)
    refine gb_callI (pc := 44) (as := [zr v8, zr v10]) (rest := [zi x1, zr v7]) (zCl.of (zLk_V (M := MX8_prepare) (ci := 7) (r := (RX7, TX7, 10)) plX7_props.1 rfl rfl (zisE hb).1 (zisE hb).2 dX8_prepare_44 q1689 q1690 q1691 q1692) plX7_props (Nat.le_of_ble_eq_true rfl) (fun h => c_X7_props h)) (fun v11 σ12 => ?_)
    refine gb_iast (pc := 47) dX8_prepare_47 (fun σ13 => ?_)
    refine zst_ (gj_aload_n 0 (pc := 48) dX8_prepare_48 rfl) ?_
    refine gb_get (pc := 49) fl805 dX8_prepare_49 q770 (Or.inl rfl) (fun v14 => ?_)
    refine zst_ (gj_iload_n 1 (pc := 52) dX8_prepare_52 rfl) ?_
    refine zst_ (gj_iconst (pc := 53) dX8_prepare_53 (by decide)) ?_
    refine gb_iast (pc := 54) dX8_prepare_54 (fun σ15 => ?_)
    refine zst_ (gj_iconst (pc := 55) dX8_prepare_55 (by decide)) ?_
    refine zst_ (gj_istore_n (pc := 56) (ls' := [(2, zi 0), (0, zr x0), (1, zi x1)]) dX8_prepare_56 (by decide) rfl) ?_
    refine zst_ (gj_sub [1, 2, 0] rfl) ?_
    exact fun h => w_X8_prepare_57 x0 x1 0 σ15 h hk
theorem w_X8_prepare_2 {g : zG} {lv : Nat} {out : zO} (x0 x1 : Int) (σ : zM) {r : zO} (h : f_X8_prepare_2 x0 x1 σ = some r) (hk : (fun o : zO => o = out) r) : Gj g MX8_prepare (lv + 43) 2 [(0, zr x0), (1, zi x1)] [] σ out :=
  gj_loop (P := (fun s : Int × zM => Gj g MX8_prepare (lv + 43) 2 [(0, zr x0), (1, zi s.1)] [] s.2 out)) (fun s x hb hx => w_X8_prepare_2_b x0 s.1 s.2 hb hx) h hk
noncomputable def f_X8_prepare (x0 : Int) (σ : zM) : Option zO :=
  f_X8_prepare_2 x0 0 σ
theorem c_X8_prepare {g : zG} {lv : Nat} {x0 : Int} {σ : zM} {out : zO} (h : f_X8_prepare x0 σ = some out) : Cj g (lv + 43) MX8_prepare [zr x0] σ out := by
  refine cj_go (ls := [(0, zr x0)]) (by decide) (Nat.le_of_ble_eq_true rfl) rfl (zgen h (fun r hk => ?_))
  unfold f_X8_prepare
  refine zst_ (gj_iconst (pc := 0) dX8_prepare_0 (by decide)) ?_
  refine zst_ (gj_istore_n (pc := 1) (ls' := [(1, zi 0), (0, zr x0)]) dX8_prepare_1 (by decide) rfl) ?_
  refine zst_ (gj_sub [1, 0] rfl) ?_
  exact fun h => w_X8_prepare_2 x0 0 σ h hk
theorem q772 : (Jvm.Cond.fieldLink "LassoFinder$Search" (27 : Nat) "LassoFinder$Search" "order" "[I") ∈ lw_all := lw_g (lw_at lw_m3 192 rfl) rfl
theorem q773 : (Jvm.Cond.fieldLink "LassoFinder$Search" (30 : Nat) "LassoFinder$Search" "low" "[I") ∈ lw_all := lw_g (lw_at lw_m3 193 rfl) rfl
theorem q775 : (Jvm.Cond.fieldLink "LassoFinder$Search" (36 : Nat) "LassoFinder$Search" "stack" "[I") ∈ lw_all := lw_g (lw_at lw_m3 195 rfl) rfl
theorem q777 : (Jvm.Cond.fieldLink "LassoFinder$Search" (42 : Nat) "LassoFinder$Search" "open" "[Z") ∈ lw_all := lw_g (lw_at lw_m3 197 rfl) rfl
theorem q778 : (Jvm.Cond.fieldLink "LassoFinder$Search" (116 : Nat) "LassoFinder$Search" "clock" "I") ∈ lw_all := lw_g (lw_at lw_m3 198 rfl) rfl
theorem q779 : (Jvm.Cond.fieldLink "LassoFinder$Search" (119 : Nat) "LassoFinder$Search" "height" "I") ∈ lw_all := lw_g (lw_at lw_m3 199 rfl) rfl
theorem q1763 : (Jvm.Cond.code ({ cls := "LassoFinder$Search", name := "enter", desc := "(I)V" } : Jvm.MethodName) prog_18_method_6_code (2 : Nat) (Option.none : Option Jvm.ClassFile.FieldType)) ∈ lw_all := lw_g (lw_at lw_m7 223 rfl) rfl
theorem fl807 : zfl 807 2 "LassoFinder$Search" "order" "[I" true := ⟨rfl, rfl, rfl⟩
theorem fr807 {g : zG} {v : Int} : zok g (2, v) → zokt g (zft 807) v := fun h => h
theorem fl808 : zfl 808 2 "LassoFinder$Search" "low" "[I" true := ⟨rfl, rfl, rfl⟩
theorem fr808 {g : zG} {v : Int} : zok g (2, v) → zokt g (zft 808) v := fun h => h
theorem fl810 : zfl 810 2 "LassoFinder$Search" "stack" "[I" true := ⟨rfl, rfl, rfl⟩
theorem fr810 {g : zG} {v : Int} : zok g (2, v) → zokt g (zft 810) v := fun h => h
theorem fl812 : zfl 812 2 "LassoFinder$Search" "open" "[Z" true := ⟨rfl, rfl, rfl⟩
theorem fr812 {g : zG} {v : Int} : zok g (2, v) → zokt g (zft 812) v := fun h => h
theorem fl813 : zfl 813 0 "LassoFinder$Search" "clock" "I" false := ⟨rfl, rfl, rfl⟩
theorem fr813 {g : zG} {v : Int} : zok g (0, v) → zokt g (zft 813) v := fun h => h
theorem fl814 : zfl 814 0 "LassoFinder$Search" "height" "I" false := ⟨rfl, rfl, rfl⟩
theorem fr814 {g : zG} {v : Int} : zok g (0, v) → zokt g (zft 814) v := fun h => h
abbrev cX8_enter : ByteArray := prog_18_method_6_code
def yX8_enter : MethodName := ⟨RX8, "enter", "(I)V"⟩
theorem dX8_enter_0 : decode cX8_enter 0 = .ok (.aload_n 0, 1) := by decide +kernel
theorem dX8_enter_1 : decode cX8_enter 1 = .ok (.dup, 1) := by decide +kernel
theorem dX8_enter_2 : decode cX8_enter 2 = .ok (.getfield 116, 3) := by decide +kernel
theorem dX8_enter_5 : decode cX8_enter 5 = .ok (.iconst 1, 1) := by decide +kernel
theorem dX8_enter_6 : decode cX8_enter 6 = .ok (.iadd, 1) := by decide +kernel
theorem dX8_enter_7 : decode cX8_enter 7 = .ok (.putfield 116, 3) := by decide +kernel
theorem dX8_enter_10 : decode cX8_enter 10 = .ok (.aload_n 0, 1) := by decide +kernel
theorem dX8_enter_11 : decode cX8_enter 11 = .ok (.getfield 27, 3) := by decide +kernel
theorem dX8_enter_14 : decode cX8_enter 14 = .ok (.iload_n 1, 1) := by decide +kernel
theorem dX8_enter_15 : decode cX8_enter 15 = .ok (.aload_n 0, 1) := by decide +kernel
theorem dX8_enter_16 : decode cX8_enter 16 = .ok (.getfield 116, 3) := by decide +kernel
theorem dX8_enter_19 : decode cX8_enter 19 = .ok (.iastore, 1) := by decide +kernel
theorem dX8_enter_20 : decode cX8_enter 20 = .ok (.aload_n 0, 1) := by decide +kernel
theorem dX8_enter_21 : decode cX8_enter 21 = .ok (.getfield 30, 3) := by decide +kernel
theorem dX8_enter_24 : decode cX8_enter 24 = .ok (.iload_n 1, 1) := by decide +kernel
theorem dX8_enter_25 : decode cX8_enter 25 = .ok (.aload_n 0, 1) := by decide +kernel
theorem dX8_enter_26 : decode cX8_enter 26 = .ok (.getfield 116, 3) := by decide +kernel
theorem dX8_enter_29 : decode cX8_enter 29 = .ok (.iastore, 1) := by decide +kernel
theorem dX8_enter_30 : decode cX8_enter 30 = .ok (.aload_n 0, 1) := by decide +kernel
theorem dX8_enter_31 : decode cX8_enter 31 = .ok (.getfield 42, 3) := by decide +kernel
theorem dX8_enter_34 : decode cX8_enter 34 = .ok (.iload_n 1, 1) := by decide +kernel
theorem dX8_enter_35 : decode cX8_enter 35 = .ok (.iconst 1, 1) := by decide +kernel
theorem dX8_enter_36 : decode cX8_enter 36 = .ok (.bastore, 1) := by decide +kernel
theorem dX8_enter_37 : decode cX8_enter 37 = .ok (.aload_n 0, 1) := by decide +kernel
theorem dX8_enter_38 : decode cX8_enter 38 = .ok (.getfield 36, 3) := by decide +kernel
theorem dX8_enter_41 : decode cX8_enter 41 = .ok (.aload_n 0, 1) := by decide +kernel
theorem dX8_enter_42 : decode cX8_enter 42 = .ok (.getfield 119, 3) := by decide +kernel
theorem dX8_enter_45 : decode cX8_enter 45 = .ok (.iload_n 1, 1) := by decide +kernel
theorem dX8_enter_46 : decode cX8_enter 46 = .ok (.iastore, 1) := by decide +kernel
theorem dX8_enter_47 : decode cX8_enter 47 = .ok (.aload_n 0, 1) := by decide +kernel
theorem dX8_enter_48 : decode cX8_enter 48 = .ok (.dup, 1) := by decide +kernel
theorem dX8_enter_49 : decode cX8_enter 49 = .ok (.getfield 119, 3) := by decide +kernel
theorem dX8_enter_52 : decode cX8_enter 52 = .ok (.iconst 1, 1) := by decide +kernel
theorem dX8_enter_53 : decode cX8_enter 53 = .ok (.iadd, 1) := by decide +kernel
theorem dX8_enter_54 : decode cX8_enter 54 = .ok (.putfield 119, 3) := by decide +kernel
theorem dX8_enter_57 : decode cX8_enter 57 = .ok (.return_, 1) := by decide +kernel
abbrev MX8_enter : zT := (yX8_enter, cX8_enter, 2, (Option.none : Option Jvm.ClassFile.FieldType), [])
theorem plX8_enter : zplain MX8_enter 1 ∧ (zcodeW MX8_enter ∈ lw_all ∧ Cond.initialized MX8_enter.1.cls ∈ lw_all) := ⟨⟨by decide +kernel, by decide +kernel⟩, q1763, q126⟩
noncomputable def f_X8_enter (x0 x1 : Int) (σ : zM) : Option zO :=
  (zgf σ 813 x0).bind fun v1 =>
  (zpf σ 813 x0 (zadd v1 1)).bind fun σ2 =>
  (zgf σ2 807 x0).bind fun v3 =>
  (zgf σ2 813 x0).bind fun v4 =>
  (zpa σ2 101 v3 x1 v4).bind fun σ5 =>
  (zgf σ5 808 x0).bind fun v6 =>
  (zgf σ5 813 x0).bind fun v7 =>
  (zpa σ5 101 v6 x1 v7).bind fun σ8 =>
  (zgf σ8 812 x0).bind fun v9 =>
  zgd (z01 1) <|
  (zpa σ8 103 v9 x1 1).bind fun σ10 =>
  (zgf σ10 810 x0).bind fun v11 =>
  (zgf σ10 814 x0).bind fun v12 =>
  (zpa σ10 101 v11 v12 x1).bind fun σ13 =>
  (zgf σ13 814 x0).bind fun v14 =>
  (zpf σ13 814 x0 (zadd v14 1)).bind fun σ15 =>
  some (0, ((3, 0) : zV), σ15)
theorem c_X8_enter {g : zG} {lv : Nat} {x0 x1 : Int} {σ : zM} {out : zO} (h : f_X8_enter x0 x1 σ = some out) : Cj g (lv) MX8_enter [zr x0, zi x1] σ out := by
  refine cj_go (ls := [(0, zr x0), (1, zi x1)]) (by decide) (Nat.le_of_ble_eq_true rfl) rfl (zgen h (fun r hk => ?_))
  unfold f_X8_enter
  refine zst_ (gj_aload_n 0 (pc := 0) dX8_enter_0 rfl) ?_
  refine zst_ (gj_dup (pc := 1) dX8_enter_1 rfl) ?_
  refine gb_get (pc := 2) fl813 dX8_enter_2 q778 (Or.inl rfl) (fun v1 => ?_)
  refine zst_ (gj_iconst (pc := 5) dX8_enter_5 (by decide)) ?_
  refine zst_ (gj_iadd (pc := 6) dX8_enter_6) ?_
  refine gb_put (pc := 7) fl813 fr813 dX8_enter_7 q778 (Or.inl rfl) (fun σ2 => ?_)
  refine zst_ (gj_aload_n 0 (pc := 10) dX8_enter_10 rfl) ?_
  refine gb_get (pc := 11) fl807 dX8_enter_11 q772 (Or.inl rfl) (fun v3 => ?_)
  refine zst_ (gj_iload_n 1 (pc := 14) dX8_enter_14 rfl) ?_
  refine zst_ (gj_aload_n 0 (pc := 15) dX8_enter_15 rfl) ?_
  refine gb_get (pc := 16) fl813 dX8_enter_16 q778 (Or.inl rfl) (fun v4 => ?_)
  refine gb_iast (pc := 19) dX8_enter_19 (fun σ5 => ?_)
  refine zst_ (gj_aload_n 0 (pc := 20) dX8_enter_20 rfl) ?_
  refine gb_get (pc := 21) fl808 dX8_enter_21 q773 (Or.inl rfl) (fun v6 => ?_)
  refine zst_ (gj_iload_n 1 (pc := 24) dX8_enter_24 rfl) ?_
  refine zst_ (gj_aload_n 0 (pc := 25) dX8_enter_25 rfl) ?_
  refine gb_get (pc := 26) fl813 dX8_enter_26 q778 (Or.inl rfl) (fun v7 => ?_)
  refine gb_iast (pc := 29) dX8_enter_29 (fun σ8 => ?_)
  refine zst_ (gj_aload_n 0 (pc := 30) dX8_enter_30 rfl) ?_
  refine gb_get (pc := 31) fl812 dX8_enter_31 q777 (Or.inl rfl) (fun v9 => ?_)
  refine zst_ (gj_iload_n 1 (pc := 34) dX8_enter_34 rfl) ?_
  refine zst_ (gj_iconst (pc := 35) dX8_enter_35 (by decide)) ?_
  refine gb_gd (fun hb => ?_)
  refine gb_zast (pc := 36) (z01E hb) dX8_enter_36 (fun σ10 => ?_)
  refine zst_ (gj_aload_n 0 (pc := 37) dX8_enter_37 rfl) ?_
  refine gb_get (pc := 38) fl810 dX8_enter_38 q775 (Or.inl rfl) (fun v11 => ?_)
  refine zst_ (gj_aload_n 0 (pc := 41) dX8_enter_41 rfl) ?_
  refine gb_get (pc := 42) fl814 dX8_enter_42 q779 (Or.inl rfl) (fun v12 => ?_)
  refine zst_ (gj_iload_n 1 (pc := 45) dX8_enter_45 rfl) ?_
  refine gb_iast (pc := 46) dX8_enter_46 (fun σ13 => ?_)
  refine zst_ (gj_aload_n 0 (pc := 47) dX8_enter_47 rfl) ?_
  refine zst_ (gj_dup (pc := 48) dX8_enter_48 rfl) ?_
  refine gb_get (pc := 49) fl814 dX8_enter_49 q779 (Or.inl rfl) (fun v14 => ?_)
  refine zst_ (gj_iconst (pc := 52) dX8_enter_52 (by decide)) ?_
  refine zst_ (gj_iadd (pc := 53) dX8_enter_53) ?_
  refine gb_put (pc := 54) fl814 fr814 dX8_enter_54 q779 (Or.inl rfl) (fun σ15 => ?_)
  intro h
  cases h
  have hk : (0, ((3, 0) : zV), σ15) = out := hk
  subst hk
  exact gj_vret (pc := 57) dX8_enter_57 rfl
theorem q924 : (Jvm.Cond.code ({ cls := "LassoFinder$Model", name := "stepsOf", desc := "(I)I" } : Jvm.MethodName) prog_9_method_16_code (2 : Nat) (Option.some Jvm.ClassFile.FieldType.int)) ∈ lw_all := lw_g (lw_at lw_m4 104 rfl) rfl
abbrev cX2_stepsOf : ByteArray := prog_9_method_16_code
def yX2_stepsOf : MethodName := ⟨RX2, "stepsOf", "(I)I"⟩
theorem dX2_stepsOf_0 : decode cX2_stepsOf 0 = .ok (.aload_n 0, 1) := by decide +kernel
theorem dX2_stepsOf_1 : decode cX2_stepsOf 1 = .ok (.getfield 57, 3) := by decide +kernel
theorem dX2_stepsOf_4 : decode cX2_stepsOf 4 = .ok (.iload_n 1, 1) := by decide +kernel
theorem dX2_stepsOf_5 : decode cX2_stepsOf 5 = .ok (.iconst 1, 1) := by decide +kernel
theorem dX2_stepsOf_6 : decode cX2_stepsOf 6 = .ok (.iadd, 1) := by decide +kernel
theorem dX2_stepsOf_7 : decode cX2_stepsOf 7 = .ok (.iaload, 1) := by decide +kernel
theorem dX2_stepsOf_8 : decode cX2_stepsOf 8 = .ok (.aload_n 0, 1) := by decide +kernel
theorem dX2_stepsOf_9 : decode cX2_stepsOf 9 = .ok (.getfield 57, 3) := by decide +kernel
theorem dX2_stepsOf_12 : decode cX2_stepsOf 12 = .ok (.iload_n 1, 1) := by decide +kernel
theorem dX2_stepsOf_13 : decode cX2_stepsOf 13 = .ok (.iaload, 1) := by decide +kernel
theorem dX2_stepsOf_14 : decode cX2_stepsOf 14 = .ok (.isub, 1) := by decide +kernel
theorem dX2_stepsOf_15 : decode cX2_stepsOf 15 = .ok (.ireturn, 1) := by decide +kernel
abbrev MX2_stepsOf : zT := (yX2_stepsOf, cX2_stepsOf, 2, (Option.some Jvm.ClassFile.FieldType.int), [])
theorem plX2_stepsOf : zplain MX2_stepsOf 1 ∧ (zcodeW MX2_stepsOf ∈ lw_all ∧ Cond.initialized MX2_stepsOf.1.cls ∈ lw_all) := ⟨⟨by decide +kernel, by decide +kernel⟩, q924, q106⟩
noncomputable def f_X2_stepsOf (x0 x1 : Int) (σ : zM) : Option zO :=
  (zgf σ 215 x0).bind fun v1 =>
  (zga σ 101 v1 (zadd x1 1)).bind fun v2 =>
  (zgf σ 215 x0).bind fun v3 =>
  (zga σ 101 v3 x1).bind fun v4 =>
  some (0, zi (zsub v2 v4), σ)
theorem c_X2_stepsOf {g : zG} {lv : Nat} {x0 x1 : Int} {σ : zM} {out : zO} (h : f_X2_stepsOf x0 x1 σ = some out) : Cj g (lv) MX2_stepsOf [zr x0, zi x1] σ out := by
  refine cj_go (ls := [(0, zr x0), (1, zi x1)]) (by decide) (Nat.le_of_ble_eq_true rfl) rfl (zgen h (fun r hk => ?_))
  unfold f_X2_stepsOf
  refine zst_ (gj_aload_n 0 (pc := 0) dX2_stepsOf_0 rfl) ?_
  refine gb_get (pc := 1) fl215 dX2_stepsOf_1 q300 (Or.inl rfl) (fun v1 => ?_)
  refine zst_ (gj_iload_n 1 (pc := 4) dX2_stepsOf_4 rfl) ?_
  refine zst_ (gj_iconst (pc := 5) dX2_stepsOf_5 (by decide)) ?_
  refine zst_ (gj_iadd (pc := 6) dX2_stepsOf_6) ?_
  refine gb_iald (pc := 7) dX2_stepsOf_7 (fun v2 => ?_)
  refine zst_ (gj_aload_n 0 (pc := 8) dX2_stepsOf_8 rfl) ?_
  refine gb_get (pc := 9) fl215 dX2_stepsOf_9 q300 (Or.inl rfl) (fun v3 => ?_)
  refine zst_ (gj_iload_n 1 (pc := 12) dX2_stepsOf_12 rfl) ?_
  refine gb_iald (pc := 13) dX2_stepsOf_13 (fun v4 => ?_)
  refine zst_ (gj_isub (pc := 14) dX2_stepsOf_14) ?_
  intro h
  cases h
  have hk : (0, zi (zsub v2 v4), σ) = out := hk
  subst hk
  exact gj_ret (pc := 15) (t := .int) dX2_stepsOf_15 rfl ⟨rfl, rfl⟩ (fun h => h)
theorem q301 : (Jvm.Cond.fieldLinkNest "LassoFinder$Search" (113 : Nat) "LassoFinder$Model" "heads" "[I" "LassoFinder") ∈ lw_tbl := lw_at lw_m1 201 rfl
theorem q774 : (Jvm.Cond.fieldLink "LassoFinder$Search" (33 : Nat) "LassoFinder$Search" "cursor" "[I") ∈ lw_all := lw_g (lw_at lw_m3 194 rfl) rfl
theorem q922 : (Jvm.Cond.instanceMethod ({ cls := "LassoFinder$Model", name := "stepsOf", desc := "(I)I" } : Jvm.MethodName)) ∈ lw_all := lw_g (lw_at lw_m4 102 rfl) rfl
theorem q923 : (Jvm.Cond.selects "LassoFinder$Model" ({ cls := "LassoFinder$Model", name := "stepsOf", desc := "(I)I" } : Jvm.MethodName) ({ cls := "LassoFinder$Model", name := "stepsOf", desc := "(I)I" } : Jvm.MethodName)) ∈ lw_all := lw_g (lw_at lw_m4 103 rfl) rfl
theorem q1767 : (Jvm.Cond.code ({ cls := "LassoFinder$Search", name := "following", desc := "(I)I" } : Jvm.MethodName) prog_18_method_4_code (6 : Nat) (Option.some Jvm.ClassFile.FieldType.int)) ∈ lw_all := lw_g (lw_at lw_m7 227 rfl) rfl
theorem q1768 : (Jvm.Cond.methodLink "LassoFinder$Search" (109 : Nat) ({ cls := "LassoFinder$Model", name := "stepsOf", desc := "(I)I" } : Jvm.MethodName)) ∈ lw_all := lw_g (lw_at lw_m7 228 rfl) rfl
theorem fl809 : zfl 809 2 "LassoFinder$Search" "cursor" "[I" true := ⟨rfl, rfl, rfl⟩
theorem fr809 {g : zG} {v : Int} : zok g (2, v) → zokt g (zft 809) v := fun h => h
abbrev cX8_following : ByteArray := prog_18_method_4_code
def yX8_following : MethodName := ⟨RX8, "following", "(I)I"⟩
theorem dX8_following_0 : decode cX8_following 0 = .ok (.iload_n 1, 1) := by decide +kernel
theorem dX8_following_1 : decode cX8_following 1 = .ok (.bipush 8, 2) := by decide +kernel
theorem dX8_following_3 : decode cX8_following 3 = .ok (.idiv, 1) := by decide +kernel
theorem dX8_following_4 : decode cX8_following 4 = .ok (.istore_n 2, 1) := by decide +kernel
theorem dX8_following_5 : decode cX8_following 5 = .ok (.bipush 8, 2) := by decide +kernel
theorem dX8_following_7 : decode cX8_following 7 = .ok (.aload_n 0, 1) := by decide +kernel
theorem dX8_following_8 : decode cX8_following 8 = .ok (.getfield 64, 3) := by decide +kernel
theorem dX8_following_11 : decode cX8_following 11 = .ok (.iload_n 2, 1) := by decide +kernel
theorem dX8_following_12 : decode cX8_following 12 = .ok (.invokevirtual 109, 3) := by decide +kernel
theorem dX8_following_15 : decode cX8_following 15 = .ok (.imul, 1) := by decide +kernel
theorem dX8_following_16 : decode cX8_following 16 = .ok (.istore_n 3, 1) := by decide +kernel
theorem dX8_following_17 : decode cX8_following 17 = .ok (.aload_n 0, 1) := by decide +kernel
theorem dX8_following_18 : decode cX8_following 18 = .ok (.getfield 33, 3) := by decide +kernel
theorem dX8_following_21 : decode cX8_following 21 = .ok (.iload_n 1, 1) := by decide +kernel
theorem dX8_following_22 : decode cX8_following 22 = .ok (.iaload, 1) := by decide +kernel
theorem dX8_following_23 : decode cX8_following 23 = .ok (.iload_n 3, 1) := by decide +kernel
theorem dX8_following_24 : decode cX8_following 24 = .ok (.if_icmp .ge 93, 3) := by decide +kernel
theorem dX8_following_27 : decode cX8_following 27 = .ok (.aload_n 0, 1) := by decide +kernel
theorem dX8_following_28 : decode cX8_following 28 = .ok (.getfield 64, 3) := by decide +kernel
theorem dX8_following_31 : decode cX8_following 31 = .ok (.getfield 113, 3) := by decide +kernel
theorem dX8_following_34 : decode cX8_following 34 = .ok (.iload_n 2, 1) := by decide +kernel
theorem dX8_following_35 : decode cX8_following 35 = .ok (.iaload, 1) := by decide +kernel
theorem dX8_following_36 : decode cX8_following 36 = .ok (.aload_n 0, 1) := by decide +kernel
theorem dX8_following_37 : decode cX8_following 37 = .ok (.getfield 33, 3) := by decide +kernel
theorem dX8_following_40 : decode cX8_following 40 = .ok (.iload_n 1, 1) := by decide +kernel
theorem dX8_following_41 : decode cX8_following 41 = .ok (.iaload, 1) := by decide +kernel
theorem dX8_following_42 : decode cX8_following 42 = .ok (.bipush 8, 2) := by decide +kernel
theorem dX8_following_44 : decode cX8_following 44 = .ok (.idiv, 1) := by decide +kernel
theorem dX8_following_45 : decode cX8_following 45 = .ok (.iadd, 1) := by decide +kernel
theorem dX8_following_46 : decode cX8_following 46 = .ok (.istore 4, 2) := by decide +kernel
theorem dX8_following_48 : decode cX8_following 48 = .ok (.aload_n 0, 1) := by decide +kernel
theorem dX8_following_49 : decode cX8_following 49 = .ok (.getfield 33, 3) := by decide +kernel
theorem dX8_following_52 : decode cX8_following 52 = .ok (.iload_n 1, 1) := by decide +kernel
theorem dX8_following_53 : decode cX8_following 53 = .ok (.iaload, 1) := by decide +kernel
theorem dX8_following_54 : decode cX8_following 54 = .ok (.bipush 8, 2) := by decide +kernel
theorem dX8_following_56 : decode cX8_following 56 = .ok (.irem, 1) := by decide +kernel
theorem dX8_following_57 : decode cX8_following 57 = .ok (.istore 5, 2) := by decide +kernel
theorem dX8_following_59 : decode cX8_following 59 = .ok (.aload_n 0, 1) := by decide +kernel
theorem dX8_following_60 : decode cX8_following 60 = .ok (.getfield 33, 3) := by decide +kernel
theorem dX8_following_63 : decode cX8_following 63 = .ok (.iload_n 1, 1) := by decide +kernel
theorem dX8_following_64 : decode cX8_following 64 = .ok (.dup2, 1) := by decide +kernel
theorem dX8_following_65 : decode cX8_following 65 = .ok (.iaload, 1) := by decide +kernel
theorem dX8_following_66 : decode cX8_following 66 = .ok (.iconst 1, 1) := by decide +kernel
theorem dX8_following_67 : decode cX8_following 67 = .ok (.iadd, 1) := by decide +kernel
theorem dX8_following_68 : decode cX8_following 68 = .ok (.iastore, 1) := by decide +kernel
theorem dX8_following_69 : decode cX8_following 69 = .ok (.iload 5, 2) := by decide +kernel
theorem dX8_following_71 : decode cX8_following 71 = .ok (.aload_n 0, 1) := by decide +kernel
theorem dX8_following_72 : decode cX8_following 72 = .ok (.invokevirtual 93, 3) := by decide +kernel
theorem dX8_following_75 : decode cX8_following 75 = .ok (.if_icmp .ge 39, 3) := by decide +kernel
theorem dX8_following_78 : decode cX8_following 78 = .ok (.aload_n 0, 1) := by decide +kernel
theorem dX8_following_79 : decode cX8_following 79 = .ok (.getfield 15, 3) := by decide +kernel
theorem dX8_following_82 : decode cX8_following 82 = .ok (.bipush 8, 2) := by decide +kernel
theorem dX8_following_84 : decode cX8_following 84 = .ok (.iload_n 2, 1) := by decide +kernel
theorem dX8_following_85 : decode cX8_following 85 = .ok (.imul, 1) := by decide +kernel
theorem dX8_following_86 : decode cX8_following 86 = .ok (.iload 5, 2) := by decide +kernel
theorem dX8_following_88 : decode cX8_following 88 = .ok (.iadd, 1) := by decide +kernel
theorem dX8_following_89 : decode cX8_following 89 = .ok (.iaload, 1) := by decide +kernel
theorem dX8_following_90 : decode cX8_following 90 = .ok (.iload_n 1, 1) := by decide +kernel
theorem dX8_following_91 : decode cX8_following 91 = .ok (.bipush 8, 2) := by decide +kernel
theorem dX8_following_93 : decode cX8_following 93 = .ok (.irem, 1) := by decide +kernel
theorem dX8_following_94 : decode cX8_following 94 = .ok (.if_icmp .ne 20, 3) := by decide +kernel
theorem dX8_following_97 : decode cX8_following 97 = .ok (.bipush 8, 2) := by decide +kernel
theorem dX8_following_99 : decode cX8_following 99 = .ok (.aload_n 0, 1) := by decide +kernel
theorem dX8_following_100 : decode cX8_following 100 = .ok (.getfield 64, 3) := by decide +kernel
theorem dX8_following_103 : decode cX8_following 103 = .ok (.getfield 106, 3) := by decide +kernel
theorem dX8_following_106 : decode cX8_following 106 = .ok (.iload 4, 2) := by decide +kernel
theorem dX8_following_108 : decode cX8_following 108 = .ok (.iaload, 1) := by decide +kernel
theorem dX8_following_109 : decode cX8_following 109 = .ok (.imul, 1) := by decide +kernel
theorem dX8_following_110 : decode cX8_following 110 = .ok (.iload 5, 2) := by decide +kernel
theorem dX8_following_112 : decode cX8_following 112 = .ok (.iadd, 1) := by decide +kernel
theorem dX8_following_113 : decode cX8_following 113 = .ok (.ireturn, 1) := by decide +kernel
theorem dX8_following_114 : decode cX8_following 114 = .ok (.goto (-97), 3) := by decide +kernel
theorem dX8_following_117 : decode cX8_following 117 = .ok (.iconst (-1), 1) := by decide +kernel
theorem dX8_following_118 : decode cX8_following 118 = .ok (.ireturn, 1) := by decide +kernel
abbrev MX8_following : zT := (yX8_following, cX8_following, 6, (Option.some Jvm.ClassFile.FieldType.int), [])
theorem plX8_following : zplain MX8_following 1 ∧ (zcodeW MX8_following ∈ lw_all ∧ Cond.initialized MX8_following.1.cls ∈ lw_all) := ⟨⟨by decide +kernel, by decide +kernel⟩, q1767, q126⟩
noncomputable def f_X8_following_117 (σ : zM) : Option zO :=
  some (0, zi (-1), σ)
theorem w_X8_following_117 {g : zG} {lv : Nat} {out : zO} (σ : zM) {r : zO} (h : f_X8_following_117  σ = some r) (hk : (fun o : zO => o = out) r) : Gj g MX8_following (lv + 1) 117 [] [] σ out := by
  revert h
  unfold f_X8_following_117
  refine zst_ (gj_iconst (pc := 117) dX8_following_117 (by decide)) ?_
  intro h
  cases h
  have hk : (0, zi (-1), σ) = out := hk
  subst hk
  exact gj_ret (pc := 118) (t := .int) dX8_following_118 rfl ⟨rfl, rfl⟩ (fun h => h)
noncomputable def f_X8_following_114 (x0 x1 x2 x3 : Int) (σ : zM) : Option ((zM) ⊕ zO) :=
  some (.inl σ)
theorem w_X8_following_114 {g : zG} {lv : Nat} {out : zO} (x0 x1 x2 x3 : Int) (σ : zM) {r : ((zM) ⊕ zO)} (h : f_X8_following_114 x0 x1 x2 x3 σ = some r) (hk : (zKL (fun s : zM => Gj g MX8_following (lv + 1) 17 [(0, zr x0), (1, zi x1), (2, zi x2), (3, zi x3)] [] s out) (fun o : zO => o = out)) r) : Gj g MX8_following (lv + 1) 114 [(0, zr x0), (1, zi x1), (2, zi x2), (3, zi x3)] [] σ out := by
  revert h
  unfold f_X8_following_114
  refine zst_ (gj_goto 17 (pc := 114) dX8_following_114 (by decide)) ?_
  intro h
  cases h
  exact hk
noncomputable def f_X8_following_97 (x0 x4 x5 : Int) (σ : zM) : Option zO :=
  (zgf σ 800 x0).bind fun v1 =>
  (zgf σ 217 v1).bind fun v2 =>
  (zga σ 101 v2 x4).bind fun v3 =>
  some (0, zi (zadd (zmul 8 v3) x5), σ)
theorem w_X8_following_97 {g : zG} {lv : Nat} {out : zO} (x0 x4 x5 : Int) (σ : zM) {r : zO} (h : f_X8_following_97 x0 x4 x5 σ = some r) (hk : (fun o : zO => o = out) r) : Gj g MX8_following (lv + 1) 97 [(0, zr x0), (4, zi x4), (5, zi x5)] [] σ out := by
  revert h
  unfold f_X8_following_97
  refine zst_ (gj_bipush (pc := 97) dX8_following_97 ⟨rfl, by decide⟩) ?_
  refine zst_ (gj_aload_n 0 (pc := 99) dX8_following_99 rfl) ?_
  refine gb_get (pc := 100) fl800 dX8_following_100 q765 (Or.inl rfl) (fun v1 => ?_)
  refine gb_getNe (pc := 103) fl217 dX8_following_103 q306 (Or.inl rfl) (fun v2 => ?_)
  refine zst_ (gj_iload 1 (pc := 106) dX8_following_106 rfl) ?_
  refine gb_iald (pc := 108) dX8_following_108 (fun v3 => ?_)
  refine zst_ (gj_imul (pc := 109) dX8_following_109) ?_
  refine zst_ (gj_iload 2 (pc := 110) dX8_following_110 rfl) ?_
  refine zst_ (gj_iadd (pc := 112) dX8_following_112) ?_
  intro h
  cases h
  have hk : (0, zi (zadd (zmul 8 v3) x5), σ) = out := hk
  subst hk
  exact gj_ret (pc := 113) (t := .int) dX8_following_113 rfl ⟨rfl, rfl⟩ (fun h => h)
noncomputable def f_X8_following_17_b (x0 x1 x2 x3 : Int) (σ : zM) : Option ((zM) ⊕ zO) :=
  (zgf σ 809 x0).bind fun v1 =>
  (zga σ 101 v1 x1).bind fun v2 =>
  if x3 ≤ v2 then
    (f_X8_following_117 σ).map (fun r => (.inr r))
  else
    (zgf σ 800 x0).bind fun v3 =>
    (zgf σ 215 v3).bind fun v4 =>
    (zga σ 101 v4 x2).bind fun v5 =>
    (zgf σ 809 x0).bind fun v6 =>
    (zga σ 101 v6 x1).bind fun v7 =>
    zlet ((zadd v5 (zdiv v7 8))) fun y8 =>
    (zgf σ 809 x0).bind fun v9 =>
    (zga σ 101 v9 x1).bind fun v10 =>
    zlet ((zrem v10 8)) fun y11 =>
    (zgf σ 809 x0).bind fun v12 =>
    (zga σ 101 v12 x1).bind fun v13 =>
    (zpa σ 101 v12 x1 (zadd v13 1)).bind fun σ14 =>
    zgd (zis σ14 9 x0) <|
    zci (f_X8_kinds x0 σ14) fun v15 σ16 =>
    if v15 ≤ y11 then
      f_X8_following_114 x0 x1 x2 x3 σ16
    else
      (zgf σ16 803 x0).bind fun v17 =>
      (zga σ16 101 v17 (zadd (zmul 8 x2) y11)).bind fun v18 =>
      if v18 ≠ (zrem x1 8) then
        f_X8_following_114 x0 x1 x2 x3 σ16
      else
        (f_X8_following_97 x0 y8 y11 σ16).map (fun r => (.inr r))
noncomputable def f_X8_following_17 (x0 x1 x2 x3 : Int) (σ : zM) : Option zO :=
  zloop (fun s : zM => f_X8_following_17_b x0 x1 x2 x3 s) σ
theorem w_X8_following_17_b {g : zG} {lv : Nat} {out : zO} (x0 x1 x2 x3 : Int) (σ : zM) {r : ((zM) ⊕ zO)} (h : f_X8_following_17_b x0 x1 x2 x3 σ = some r) (hk : (zKL (fun s : zM => Gj g MX8_following (lv + 1) 17 [(0, zr x0), (1, zi x1), (2, zi x2), (3, zi x3)] [] s out) (fun o : zO => o = out)) r) : Gj g MX8_following (lv + 1) 17 [(0, zr x0), (1, zi x1), (2, zi x2), (3, zi x3)] [] σ out := by
  revert h
  unfold f_X8_following_17_b
  refine zst_ (gj_aload_n 0 (pc := 17) dX8_following_17 rfl) ?_
  refine gb_get (pc := 18) fl809 dX8_following_18 q774 (Or.inl rfl) (fun v1 => ?_)
  refine zst_ (gj_iload_n 1 (pc := 21) dX8_following_21 rfl) ?_
  refine gb_iald (pc := 22) dX8_following_22 (fun v2 => ?_)
  refine zst_ (gj_iload_n 3 (pc := 23) dX8_following_23 rfl) ?_
  refine gb_if (gj_icmp_ge 117 (pc := 24) dX8_following_24 (by decide)) ?_ ?_
  · refine zst_ (gj_sub [] rfl) ?_
    intro h
    obtain ⟨r0, h0, rfl⟩ := zmE h
    exact w_X8_following_117 σ h0 hk
  · refine zst_ (gj_aload_n 0 (pc := 27) dX8_following_27 rfl) ?_
    refine gb_get (pc := 28) fl800 dX8_following_28 q765 (Or.inl rfl) (fun v3 => ?_)
    refine gb_getNe (pc := 31) fl215 dX8_following_31 q301 (Or.inl rfl) (fun v4 => ?_)
    refine zst_ (gj_iload_n 2 (pc := 34) dX8_following_34 rfl) ?_
    refine gb_iald (pc := 35) dX8_following_35 (fun v5 => ?_)
    refine zst_ (gj_aload_n 0 (pc := 36) dX8_following_36 rfl) ?_
    refine gb_get (pc := 37) fl809 dX8_following_37 q774 (Or.inl rfl) (fun v6 => ?_)
    refine zst_ (gj_iload_n 1 (pc := 40) dX8_following_40 rfl) ?_
    refine gb_iald (pc := 41) dX8_following_41 (fun v7 => ?_)
    refine zst_ (gj_bipush (pc := 42) dX8_following_42 ⟨rfl, by decide⟩) ?_
    refine zst_ (gj_idiv (pc := 44) dX8_following_44 (by decide)) ?_
    refine zst_ (gj_iadd (pc := 45) dX8_following_45) ?_
    refine gb_let (fun y8 => ?_)
    refine zst_ (gj_istore (pc := 46) (ls' := [(4, zi y8), (0, zr x0), (1, zi x1), (2, zi x2), (3, zi x3)]) dX8_following_46 (by decide) rfl) ?_
    refine zst_ (gj_aload_n 1 (pc := 48) dX8_following_48 rfl) ?_
    refine gb_get (pc := 49) fl809 dX8_following_49 q774 (Or.inl rfl) (fun v9 => ?_)
    refine zst_ (gj_iload_n 2 (pc := 52) dX8_following_52 rfl) ?_
    refine gb_iald (pc := 53) dX8_following_53 (fun v10 => ?_)
    refine zst_ (gj_bipush (pc := 54) dX8_following_54 ⟨rfl, by decide⟩) ?_
    refine zst_ (gj_irem (pc := 56) dX8_following_56 (by decide)) ?_
    refine gb_let (fun y11 => ?_)
    refine zst_ (gj_istore (pc := 57) (ls' := [(5, zi y11), (4, zi y8), (0, zr x0), (1, zi x1), (2, zi x2), (3, zi x3)]) dX8_following_57 (by decide) rfl) ?_
    refine zst_ (gj_aload_n 2 (pc := 59) dX8_following_59 rfl) ?_
    refine gb_get (pc := 60) fl809 dX8_following_60 q774 (Or.inl rfl) (fun v12 => ?_)
    refine zst_ (gj_iload_n 3 (pc := 63) dX8_following_63 rfl) ?_
    refine zst_ (gj_dup2 (pc := 64) dX8_following_64 rfl rfl) ?_
    refine gb_iald (pc := 65) dX8_following_65 (fun v13 => ?_)
    refine zst_ (gj_iconst (pc := 66) dX8_following_66 (by decide)) ?_
    refine zst_ (gj_iadd (pc := 67) dX8_following_67) ?_
    refine gb_iast (pc := 68) dX8_following_68 (fun σ14 => ?_)
    refine zst_ (gj_iload 0 (pc := 69) dX8_following_69 rfl) ?_
    refine zst_ (gj_aload_n 2 (pc := 71) dX8_following_71 rfl) ?_
    refine gb_gd (fun hb => ?_)
    refine gb_callI (pc := 72) (as := [zr x0]) (rest := [zi y11]) (zCl.of (zLk_V (M := MX8_following) (ci := 8) (r := (RX8, TX8, 23)) plX8_kinds.1 rfl rfl (zisE hb).1 (zisE hb).2 dX8_following_72 q1699 q1701 qs30 q1702) plX8_kinds (Nat.le_of_ble_eq_true rfl) (fun h => c_X8_kinds h)) (fun v15 σ16 => ?_)
    refine gb_if (gj_icmp_ge 114 (pc := 75) dX8_following_75 (by decide)) ?_ ?_
    · refine zst_ (gj_sub [2, 3, 4, 5] rfl) ?_
      exact fun h => w_X8_following_114 x0 x1 x2 x3 σ16 h hk
    · refine zst_ (gj_aload_n 2 (pc := 78) dX8_following_78 rfl) ?_
      refine gb_get (pc := 79) fl803 dX8_following_79 q768 (Or.inl rfl) (fun v17 => ?_)
      refine zst_ (gj_bipush (pc := 82) dX8_following_82 ⟨rfl, by decide⟩) ?_
      refine zst_ (gj_iload_n 4 (pc := 84) dX8_following_84 rfl) ?_
      refine zst_ (gj_imul (pc := 85) dX8_following_85) ?_
      refine zst_ (gj_iload 0 (pc := 86) dX8_following_86 rfl) ?_
      refine zst_ (gj_iadd (pc := 88) dX8_following_88) ?_
      refine gb_iald (pc := 89) dX8_following_89 (fun v18 => ?_)
      refine zst_ (gj_iload_n 3 (pc := 90) dX8_following_90 rfl) ?_
      refine zst_ (gj_bipush (pc := 91) dX8_following_91 ⟨rfl, by decide⟩) ?_
      refine zst_ (gj_irem (pc := 93) dX8_following_93 (by decide)) ?_
      refine gb_if (gj_icmp_ne 114 (pc := 94) dX8_following_94 (by decide)) ?_ ?_
      · refine zst_ (gj_sub [2, 3, 4, 5] rfl) ?_
        exact fun h => w_X8_following_114 x0 x1 x2 x3 σ16 h hk
      · refine zst_ (gj_sub [2, 1, 0] rfl) ?_
        intro h
        obtain ⟨r0, h0, rfl⟩ := zmE h
        exact w_X8_following_97 x0 y8 y11 σ16 h0 hk
theorem w_X8_following_17 {g : zG} {lv : Nat} {out : zO} (x0 x1 x2 x3 : Int) (σ : zM) {r : zO} (h : f_X8_following_17 x0 x1 x2 x3 σ = some r) (hk : (fun o : zO => o = out) r) : Gj g MX8_following (lv + 1) 17 [(0, zr x0), (1, zi x1), (2, zi x2), (3, zi x3)] [] σ out :=
  gj_loop (P := (fun s : zM => Gj g MX8_following (lv + 1) 17 [(0, zr x0), (1, zi x1), (2, zi x2), (3, zi x3)] [] s out)) (fun s x hb hx => w_X8_following_17_b x0 x1 x2 x3 s hb hx) h hk
noncomputable def f_X8_following (x0 x1 : Int) (σ : zM) : Option zO :=
  zlet ((zdiv x1 8)) fun y1 =>
  (zgf σ 800 x0).bind fun v2 =>
  zgd (zis σ 3 v2) <|
  zci (f_X2_stepsOf v2 y1 σ) fun v3 σ4 =>
  zlet ((zmul 8 v3)) fun y5 =>
  f_X8_following_17 x0 x1 y1 y5 σ4
theorem c_X8_following {g : zG} {lv : Nat} {x0 x1 : Int} {σ : zM} {out : zO} (h : f_X8_following x0 x1 σ = some out) : Cj g (lv + 1) MX8_following [zr x0, zi x1] σ out := by
  refine cj_go (ls := [(0, zr x0), (1, zi x1)]) (by decide) (Nat.le_of_ble_eq_true rfl) rfl (zgen h (fun r hk => ?_))
  unfold f_X8_following
  refine zst_ (gj_iload_n 1 (pc := 0) dX8_following_0 rfl) ?_
  refine zst_ (gj_bipush (pc := 1) dX8_following_1 ⟨rfl, by decide⟩) ?_
  refine zst_ (gj_idiv (pc := 3) dX8_following_3 (by decide)) ?_
  refine gb_let (fun y1 => ?_)
  refine zst_ (gj_istore_n (pc := 4) (ls' := [(2, zi y1), (0, zr x0), (1, zi x1)]) dX8_following_4 (by decide) rfl) ?_
  refine zst_ (gj_bipush (pc := 5) dX8_following_5 ⟨rfl, by decide⟩) ?_
  refine zst_ (gj_aload_n 1 (pc := 7) dX8_following_7 rfl) ?_
  refine gb_get (pc := 8) fl800 dX8_following_8 q765 (Or.inl rfl) (fun v2 => ?_)
  refine zst_ (gj_iload_n 0 (pc := 11) dX8_following_11 rfl) ?_
  refine gb_gd (fun hb => ?_)
  refine gb_callI (pc := 12) (as := [zr v2, zi y1]) (rest := [zi 8]) (zCl.of (zLk_V (M := MX8_following) (ci := 2) (r := (RX2, TX2, 22)) plX2_stepsOf.1 rfl rfl (zisE hb).1 (zisE hb).2 dX8_following_12 q1768 q922 q923 q924) plX2_stepsOf (Nat.le_of_ble_eq_true rfl) (fun h => c_X2_stepsOf h)) (fun v3 σ4 => ?_)
  refine zst_ (gj_imul (pc := 15) dX8_following_15) ?_
  refine gb_let (fun y5 => ?_)
  refine zst_ (gj_istore_n (pc := 16) (ls' := [(3, zi y5), (2, zi y1), (0, zr x0), (1, zi x1)]) dX8_following_16 (by decide) rfl) ?_
  refine zst_ (gj_sub [2, 3, 1, 0] rfl) ?_
  exact fun h => w_X8_following_17 x0 x1 y1 y5 σ4 h hk
theorem q1777 : (Jvm.Cond.code ({ cls := "LassoFinder$Search", name := "loops", desc := "(I)Z" } : Jvm.MethodName) prog_18_method_9_code (5 : Nat) (Option.some Jvm.ClassFile.FieldType.boolean)) ∈ lw_all := lw_g (lw_at lw_m7 237 rfl) rfl
abbrev cX8_loops : ByteArray := prog_18_method_9_code
def yX8_loops : MethodName := ⟨RX8, "loops", "(I)Z"⟩
theorem dX8_loops_0 : decode cX8_loops 0 = .ok (.iload_n 1, 1) := by decide +kernel
theorem dX8_loops_1 : decode cX8_loops 1 = .ok (.bipush 8, 2) := by decide +kernel
theorem dX8_loops_3 : decode cX8_loops 3 = .ok (.idiv, 1) := by decide +kernel
theorem dX8_loops_4 : decode cX8_loops 4 = .ok (.istore_n 2, 1) := by decide +kernel
theorem dX8_loops_5 : decode cX8_loops 5 = .ok (.iconst 0, 1) := by decide +kernel
theorem dX8_loops_6 : decode cX8_loops 6 = .ok (.istore_n 3, 1) := by decide +kernel
theorem dX8_loops_7 : decode cX8_loops 7 = .ok (.aload_n 0, 1) := by decide +kernel
theorem dX8_loops_8 : decode cX8_loops 8 = .ok (.getfield 64, 3) := by decide +kernel
theorem dX8_loops_11 : decode cX8_loops 11 = .ok (.getfield 113, 3) := by decide +kernel
theorem dX8_loops_14 : decode cX8_loops 14 = .ok (.iload_n 2, 1) := by decide +kernel
theorem dX8_loops_15 : decode cX8_loops 15 = .ok (.iaload, 1) := by decide +kernel
theorem dX8_loops_16 : decode cX8_loops 16 = .ok (.istore 4, 2) := by decide +kernel
theorem dX8_loops_18 : decode cX8_loops 18 = .ok (.iload 4, 2) := by decide +kernel
theorem dX8_loops_20 : decode cX8_loops 20 = .ok (.aload_n 0, 1) := by decide +kernel
theorem dX8_loops_21 : decode cX8_loops 21 = .ok (.getfield 64, 3) := by decide +kernel
theorem dX8_loops_24 : decode cX8_loops 24 = .ok (.getfield 113, 3) := by decide +kernel
theorem dX8_loops_27 : decode cX8_loops 27 = .ok (.iload_n 2, 1) := by decide +kernel
theorem dX8_loops_28 : decode cX8_loops 28 = .ok (.iconst 1, 1) := by decide +kernel
theorem dX8_loops_29 : decode cX8_loops 29 = .ok (.iadd, 1) := by decide +kernel
theorem dX8_loops_30 : decode cX8_loops 30 = .ok (.iaload, 1) := by decide +kernel
theorem dX8_loops_31 : decode cX8_loops 31 = .ok (.if_icmp .ge 46, 3) := by decide +kernel
theorem dX8_loops_34 : decode cX8_loops 34 = .ok (.iload_n 3, 1) := by decide +kernel
theorem dX8_loops_35 : decode cX8_loops 35 = .ok (.ifCond .ne 30, 3) := by decide +kernel
theorem dX8_loops_38 : decode cX8_loops 38 = .ok (.aload_n 0, 1) := by decide +kernel
theorem dX8_loops_39 : decode cX8_loops 39 = .ok (.getfield 64, 3) := by decide +kernel
theorem dX8_loops_42 : decode cX8_loops 42 = .ok (.getfield 106, 3) := by decide +kernel
theorem dX8_loops_45 : decode cX8_loops 45 = .ok (.iload 4, 2) := by decide +kernel
theorem dX8_loops_47 : decode cX8_loops 47 = .ok (.iaload, 1) := by decide +kernel
theorem dX8_loops_48 : decode cX8_loops 48 = .ok (.iload_n 2, 1) := by decide +kernel
theorem dX8_loops_49 : decode cX8_loops 49 = .ok (.if_icmp .ne 20, 3) := by decide +kernel
theorem dX8_loops_52 : decode cX8_loops 52 = .ok (.aload_n 0, 1) := by decide +kernel
theorem dX8_loops_53 : decode cX8_loops 53 = .ok (.getfield 15, 3) := by decide +kernel
theorem dX8_loops_56 : decode cX8_loops 56 = .ok (.iload_n 1, 1) := by decide +kernel
theorem dX8_loops_57 : decode cX8_loops 57 = .ok (.iaload, 1) := by decide +kernel
theorem dX8_loops_58 : decode cX8_loops 58 = .ok (.iload_n 1, 1) := by decide +kernel
theorem dX8_loops_59 : decode cX8_loops 59 = .ok (.bipush 8, 2) := by decide +kernel
theorem dX8_loops_61 : decode cX8_loops 61 = .ok (.irem, 1) := by decide +kernel
theorem dX8_loops_62 : decode cX8_loops 62 = .ok (.if_icmp .ne 7, 3) := by decide +kernel
theorem dX8_loops_65 : decode cX8_loops 65 = .ok (.iconst 1, 1) := by decide +kernel
theorem dX8_loops_66 : decode cX8_loops 66 = .ok (.goto 4, 3) := by decide +kernel
theorem dX8_loops_69 : decode cX8_loops 69 = .ok (.iconst 0, 1) := by decide +kernel
theorem dX8_loops_70 : decode cX8_loops 70 = .ok (.istore_n 3, 1) := by decide +kernel
theorem dX8_loops_71 : decode cX8_loops 71 = .ok (.iinc 4 1, 3) := by decide +kernel
theorem dX8_loops_74 : decode cX8_loops 74 = .ok (.goto (-56), 3) := by decide +kernel
theorem dX8_loops_77 : decode cX8_loops 77 = .ok (.iload_n 3, 1) := by decide +kernel
theorem dX8_loops_78 : decode cX8_loops 78 = .ok (.ireturn, 1) := by decide +kernel
abbrev MX8_loops : zT := (yX8_loops, cX8_loops, 5, (Option.some Jvm.ClassFile.FieldType.boolean), [])
theorem plX8_loops : zplain MX8_loops 1 ∧ (zcodeW MX8_loops ∈ lw_all ∧ Cond.initialized MX8_loops.1.cls ∈ lw_all) := ⟨⟨by decide +kernel, by decide +kernel⟩, q1777, q126⟩
noncomputable def f_X8_loops_77 (x3 : Int) (σ : zM) : Option zO :=
  zgd (z01 x3) <|
  some (0, zi x3, σ)
theorem w_X8_loops_77 {g : zG} {lv : Nat} {out : zO} (x3 : Int) (σ : zM) {r : zO} (h : f_X8_loops_77 x3 σ = some r) (hk : (fun o : zO => o = out) r) : Gj g MX8_loops (lv) 77 [(3, zi x3)] [] σ out := by
  revert h
  unfold f_X8_loops_77
  refine zst_ (gj_iload_n 0 (pc := 77) dX8_loops_77 rfl) ?_
  refine gb_gd (fun hb => ?_)
  intro h
  cases h
  have hk : (0, zi x3, σ) = out := hk
  subst hk
  exact gj_ret (pc := 78) (t := .boolean) dX8_loops_78 rfl ⟨rfl, rfl⟩ (fun _ => z01E hb)
noncomputable def f_X8_loops_70 (x0 x1 x2 x4 t0 : Int) (σ : zM) : Option ((Int × Int) ⊕ zO) :=
  zlet (zadd x4 1) fun y1 =>
  some (.inl (t0, y1))
theorem w_X8_loops_70 {g : zG} {lv : Nat} {out : zO} (x0 x1 x2 x4 t0 : Int) (σ : zM) {r : ((Int × Int) ⊕ zO)} (h : f_X8_loops_70 x0 x1 x2 x4 t0 σ = some r) (hk : (zKL (fun s : Int × Int => Gj g MX8_loops (lv) 18 [(0, zr x0), (1, zi x1), (2, zi x2), (3, zi s.1), (4, zi s.2)] [] σ out) (fun o : zO => o = out)) r) : Gj g MX8_loops (lv) 70 [(0, zr x0), (1, zi x1), (2, zi x2), (4, zi x4)] [zi t0] σ out := by
  revert h
  unfold f_X8_loops_70
  refine zst_ (gj_istore_n (pc := 70) (ls' := [(3, zi t0), (0, zr x0), (1, zi x1), (2, zi x2), (4, zi x4)]) dX8_loops_70 (by decide) rfl) ?_
  refine gb_iinc (pc := 71) 4 (fun y1 => [(4, zi y1), (3, zi t0), (0, zr x0), (1, zi x1), (2, zi x2)]) dX8_loops_71 rfl (by decide) (fun _ => rfl) (fun y1 => ?_)
  refine zst_ (gj_goto 18 (pc := 74) dX8_loops_74 (by decide)) ?_
  refine zst_ (gj_sub [2, 3, 4, 1, 0] rfl) ?_
  intro h
  cases h
  exact hk
noncomputable def f_X8_loops_65 (x0 x1 x2 x4 : Int) (σ : zM) : Option ((Int × Int) ⊕ zO) :=
  f_X8_loops_70 x0 x1 x2 x4 1 σ
theorem w_X8_loops_65 {g : zG} {lv : Nat} {out : zO} (x0 x1 x2 x4 : Int) (σ : zM) {r : ((Int × Int) ⊕ zO)} (h : f_X8_loops_65 x0 x1 x2 x4 σ = some r) (hk : (zKL (fun s : Int × Int => Gj g MX8_loops (lv) 18 [(0, zr x0), (1, zi x1), (2, zi x2), (3, zi s.1), (4, zi s.2)] [] σ out) (fun o : zO => o = out)) r) : Gj g MX8_loops (lv) 65 [(0, zr x0), (1, zi x1), (2, zi x2), (4, zi x4)] [] σ out := by
  revert h
  unfold f_X8_loops_65
  refine zst_ (gj_iconst (pc := 65) dX8_loops_65 (by decide)) ?_
  refine zst_ (gj_goto 70 (pc := 66) dX8_loops_66 (by decide)) ?_
  exact fun h => w_X8_loops_70 x0 x1 x2 x4 1 σ h hk
noncomputable def f_X8_loops_69 (x0 x1 x2 x4 : Int) (σ : zM) : Option ((Int × Int) ⊕ zO) :=
  f_X8_loops_70 x0 x1 x2 x4 0 σ
theorem w_X8_loops_69 {g : zG} {lv : Nat} {out : zO} (x0 x1 x2 x4 : Int) (σ : zM) {r : ((Int × Int) ⊕ zO)} (h : f_X8_loops_69 x0 x1 x2 x4 σ = some r) (hk : (zKL (fun s : Int × Int => Gj g MX8_loops (lv) 18 [(0, zr x0), (1, zi x1), (2, zi x2), (3, zi s.1), (4, zi s.2)] [] σ out) (fun o : zO => o = out)) r) : Gj g MX8_loops (lv) 69 [(0, zr x0), (1, zi x1), (2, zi x2), (4, zi x4)] [] σ out := by
  revert h
  unfold f_X8_loops_69
  refine zst_ (gj_iconst (pc := 69) dX8_loops_69 (by decide)) ?_
  exact fun h => w_X8_loops_70 x0 x1 x2 x4 0 σ h hk
noncomputable def f_X8_loops_18_b (x0 x1 x2 x3 x4 : Int) (σ : zM) : Option ((Int × Int) ⊕ zO) :=
  (zgf σ 800 x0).bind fun v1 =>
  (zgf σ 215 v1).bind fun v2 =>
  (zga σ 101 v2 (zadd x2 1)).bind fun v3 =>
  if v3 ≤ x4 then
    (f_X8_loops_77 x3 σ).map (fun r => (.inr r))
  else
    if x3 ≠ 0 then
      f_X8_loops_65 x0 x1 x2 x4 σ
    else
      (zgf σ 800 x0).bind fun v4 =>
      (zgf σ 217 v4).bind fun v5 =>
      (zga σ 101 v5 x4).bind fun v6 =>
      if v6 ≠ x2 then
        f_X8_loops_69 x0 x1 x2 x4 σ
      else
        (zgf σ 803 x0).bind fun v7 =>
        (zga σ 101 v7 x1).bind fun v8 =>
        if v8 ≠ (zrem x1 8) then
          f_X8_loops_69 x0 x1 x2 x4 σ
        else
          f_X8_loops_65 x0 x1 x2 x4 σ
noncomputable def f_X8_loops_18 (x0 x1 x2 x3 x4 : Int) (σ : zM) : Option zO :=
  zloop (fun s : Int × Int => f_X8_loops_18_b x0 x1 x2 s.1 s.2 σ) (x3, x4)
theorem w_X8_loops_18_b {g : zG} {lv : Nat} {out : zO} (x0 x1 x2 x3 x4 : Int) (σ : zM) {r : ((Int × Int) ⊕ zO)} (h : f_X8_loops_18_b x0 x1 x2 x3 x4 σ = some r) (hk : (zKL (fun s : Int × Int => Gj g MX8_loops (lv) 18 [(0, zr x0), (1, zi x1), (2, zi x2), (3, zi s.1), (4, zi s.2)] [] σ out) (fun o : zO => o = out)) r) : Gj g MX8_loops (lv) 18 [(0, zr x0), (1, zi x1), (2, zi x2), (3, zi x3), (4, zi x4)] [] σ out := by
  revert h
  unfold f_X8_loops_18_b
  refine zst_ (gj_iload 4 (pc := 18) dX8_loops_18 rfl) ?_
  refine zst_ (gj_aload_n 0 (pc := 20) dX8_loops_20 rfl) ?_
  refine gb_get (pc := 21) fl800 dX8_loops_21 q765 (Or.inl rfl) (fun v1 => ?_)
  refine gb_getNe (pc := 24) fl215 dX8_loops_24 q301 (Or.inl rfl) (fun v2 => ?_)
  refine zst_ (gj_iload_n 2 (pc := 27) dX8_loops_27 rfl) ?_
  refine zst_ (gj_iconst (pc := 28) dX8_loops_28 (by decide)) ?_
  refine zst_ (gj_iadd (pc := 29) dX8_loops_29) ?_
  refine gb_iald (pc := 30) dX8_loops_30 (fun v3 => ?_)
  refine gb_if (gj_icmp_ge 77 (pc := 31) dX8_loops_31 (by decide)) ?_ ?_
  · refine zst_ (gj_sub [3] rfl) ?_
    intro h
    obtain ⟨r0, h0, rfl⟩ := zmE h
    exact w_X8_loops_77 x3 σ h0 hk
  · refine zst_ (gj_iload_n 3 (pc := 34) dX8_loops_34 rfl) ?_
    refine gb_if (gj_if_ne 65 (pc := 35) dX8_loops_35 (by decide)) ?_ ?_
    · refine zst_ (gj_sub [0, 1, 2, 4] rfl) ?_
      exact fun h => w_X8_loops_65 x0 x1 x2 x4 σ h hk
    · refine zst_ (gj_aload_n 0 (pc := 38) dX8_loops_38 rfl) ?_
      refine gb_get (pc := 39) fl800 dX8_loops_39 q765 (Or.inl rfl) (fun v4 => ?_)
      refine gb_getNe (pc := 42) fl217 dX8_loops_42 q306 (Or.inl rfl) (fun v5 => ?_)
      refine zst_ (gj_iload 4 (pc := 45) dX8_loops_45 rfl) ?_
      refine gb_iald (pc := 47) dX8_loops_47 (fun v6 => ?_)
      refine zst_ (gj_iload_n 2 (pc := 48) dX8_loops_48 rfl) ?_
      refine gb_if (gj_icmp_ne 69 (pc := 49) dX8_loops_49 (by decide)) ?_ ?_
      · refine zst_ (gj_sub [0, 1, 2, 4] rfl) ?_
        exact fun h => w_X8_loops_69 x0 x1 x2 x4 σ h hk
      · refine zst_ (gj_aload_n 0 (pc := 52) dX8_loops_52 rfl) ?_
        refine gb_get (pc := 53) fl803 dX8_loops_53 q768 (Or.inl rfl) (fun v7 => ?_)
        refine zst_ (gj_iload_n 1 (pc := 56) dX8_loops_56 rfl) ?_
        refine gb_iald (pc := 57) dX8_loops_57 (fun v8 => ?_)
        refine zst_ (gj_iload_n 1 (pc := 58) dX8_loops_58 rfl) ?_
        refine zst_ (gj_bipush (pc := 59) dX8_loops_59 ⟨rfl, by decide⟩) ?_
        refine zst_ (gj_irem (pc := 61) dX8_loops_61 (by decide)) ?_
        refine gb_if (gj_icmp_ne 69 (pc := 62) dX8_loops_62 (by decide)) ?_ ?_
        · refine zst_ (gj_sub [0, 1, 2, 4] rfl) ?_
          exact fun h => w_X8_loops_69 x0 x1 x2 x4 σ h hk
        · refine zst_ (gj_sub [0, 1, 2, 4] rfl) ?_
          exact fun h => w_X8_loops_65 x0 x1 x2 x4 σ h hk
theorem w_X8_loops_18 {g : zG} {lv : Nat} {out : zO} (x0 x1 x2 x3 x4 : Int) (σ : zM) {r : zO} (h : f_X8_loops_18 x0 x1 x2 x3 x4 σ = some r) (hk : (fun o : zO => o = out) r) : Gj g MX8_loops (lv) 18 [(0, zr x0), (1, zi x1), (2, zi x2), (3, zi x3), (4, zi x4)] [] σ out :=
  gj_loop (P := (fun s : Int × Int => Gj g MX8_loops (lv) 18 [(0, zr x0), (1, zi x1), (2, zi x2), (3, zi s.1), (4, zi s.2)] [] σ out)) (fun s x hb hx => w_X8_loops_18_b x0 x1 x2 s.1 s.2 σ hb hx) h hk
noncomputable def f_X8_loops (x0 x1 : Int) (σ : zM) : Option zO :=
  zlet ((zdiv x1 8)) fun y1 =>
  (zgf σ 800 x0).bind fun v2 =>
  (zgf σ 215 v2).bind fun v3 =>
  (zga σ 101 v3 y1).bind fun v4 =>
  f_X8_loops_18 x0 x1 y1 0 v4 σ
theorem c_X8_loops {g : zG} {lv : Nat} {x0 x1 : Int} {σ : zM} {out : zO} (h : f_X8_loops x0 x1 σ = some out) : Cj g (lv) MX8_loops [zr x0, zi x1] σ out := by
  refine cj_go (ls := [(0, zr x0), (1, zi x1)]) (by decide) (Nat.le_of_ble_eq_true rfl) rfl (zgen h (fun r hk => ?_))
  unfold f_X8_loops
  refine zst_ (gj_iload_n 1 (pc := 0) dX8_loops_0 rfl) ?_
  refine zst_ (gj_bipush (pc := 1) dX8_loops_1 ⟨rfl, by decide⟩) ?_
  refine zst_ (gj_idiv (pc := 3) dX8_loops_3 (by decide)) ?_
  refine gb_let (fun y1 => ?_)
  refine zst_ (gj_istore_n (pc := 4) (ls' := [(2, zi y1), (0, zr x0), (1, zi x1)]) dX8_loops_4 (by decide) rfl) ?_
  refine zst_ (gj_iconst (pc := 5) dX8_loops_5 (by decide)) ?_
  refine zst_ (gj_istore_n (pc := 6) (ls' := [(3, zi 0), (2, zi y1), (0, zr x0), (1, zi x1)]) dX8_loops_6 (by decide) rfl) ?_
  refine zst_ (gj_aload_n 2 (pc := 7) dX8_loops_7 rfl) ?_
  refine gb_get (pc := 8) fl800 dX8_loops_8 q765 (Or.inl rfl) (fun v2 => ?_)
  refine gb_getNe (pc := 11) fl215 dX8_loops_11 q301 (Or.inl rfl) (fun v3 => ?_)
  refine zst_ (gj_iload_n 1 (pc := 14) dX8_loops_14 rfl) ?_
  refine gb_iald (pc := 15) dX8_loops_15 (fun v4 => ?_)
  refine zst_ (gj_istore (pc := 16) (ls' := [(4, zi v4), (3, zi 0), (2, zi y1), (0, zr x0), (1, zi x1)]) dX8_loops_16 (by decide) rfl) ?_
  refine zst_ (gj_sub [3, 4, 2, 1, 0] rfl) ?_
  exact fun h => w_X8_loops_18 x0 x1 y1 0 v4 σ h hk
theorem q780 : (Jvm.Cond.fieldLink "LassoFinder$Search" (46 : Nat) "LassoFinder$Search" "far" "[I") ∈ lw_all := lw_g (lw_at lw_m3 200 rfl) rfl
theorem q1773 : (Jvm.Cond.code ({ cls := "LassoFinder$Search", name := "finish", desc := "(I)V" } : Jvm.MethodName) prog_18_method_8_code (6 : Nat) (Option.none : Option Jvm.ClassFile.FieldType)) ∈ lw_all := lw_g (lw_at lw_m7 233 rfl) rfl
theorem q1774 : (Jvm.Cond.methodLink "LassoFinder$Search" (140 : Nat) ({ cls := "LassoFinder$Search", name := "loops", desc := "(I)Z" } : Jvm.MethodName)) ∈ lw_all := lw_g (lw_at lw_m7 234 rfl) rfl
theorem q1776 : (Jvm.Cond.instanceMethod ({ cls := "LassoFinder$Search", name := "loops", desc := "(I)Z" } : Jvm.MethodName)) ∈ lw_all := lw_g (lw_at lw_m7 236 rfl) rfl
theorem fl815 : zfl 815 2 "LassoFinder$Search" "far" "[I" true := ⟨rfl, rfl, rfl⟩
theorem fr815 {g : zG} {v : Int} : zok g (2, v) → zokt g (zft 815) v := fun h => h
abbrev cX8_finish : ByteArray := prog_18_method_8_code
def yX8_finish : MethodName := ⟨RX8, "finish", "(I)V"⟩
theorem dX8_finish_0 : decode cX8_finish 0 = .ok (.aload_n 0, 1) := by decide +kernel
theorem dX8_finish_1 : decode cX8_finish 1 = .ok (.getfield 119, 3) := by decide +kernel
theorem dX8_finish_4 : decode cX8_finish 4 = .ok (.iconst 1, 1) := by decide +kernel
theorem dX8_finish_5 : decode cX8_finish 5 = .ok (.isub, 1) := by decide +kernel
theorem dX8_finish_6 : decode cX8_finish 6 = .ok (.istore_n 2, 1) := by decide +kernel
theorem dX8_finish_7 : decode cX8_finish 7 = .ok (.iconst 0, 1) := by decide +kernel
theorem dX8_finish_8 : decode cX8_finish 8 = .ok (.istore_n 3, 1) := by decide +kernel
theorem dX8_finish_9 : decode cX8_finish 9 = .ok (.aload_n 0, 1) := by decide +kernel
theorem dX8_finish_10 : decode cX8_finish 10 = .ok (.getfield 36, 3) := by decide +kernel
theorem dX8_finish_13 : decode cX8_finish 13 = .ok (.iload_n 2, 1) := by decide +kernel
theorem dX8_finish_14 : decode cX8_finish 14 = .ok (.iaload, 1) := by decide +kernel
theorem dX8_finish_15 : decode cX8_finish 15 = .ok (.iload_n 1, 1) := by decide +kernel
theorem dX8_finish_16 : decode cX8_finish 16 = .ok (.if_icmp .eq 9, 3) := by decide +kernel
theorem dX8_finish_19 : decode cX8_finish 19 = .ok (.iinc 2 (-1), 3) := by decide +kernel
theorem dX8_finish_22 : decode cX8_finish 22 = .ok (.goto (-13), 3) := by decide +kernel
theorem dX8_finish_25 : decode cX8_finish 25 = .ok (.iload_n 2, 1) := by decide +kernel
theorem dX8_finish_26 : decode cX8_finish 26 = .ok (.istore 4, 2) := by decide +kernel
theorem dX8_finish_28 : decode cX8_finish 28 = .ok (.iload 4, 2) := by decide +kernel
theorem dX8_finish_30 : decode cX8_finish 30 = .ok (.aload_n 0, 1) := by decide +kernel
theorem dX8_finish_31 : decode cX8_finish 31 = .ok (.getfield 119, 3) := by decide +kernel
theorem dX8_finish_34 : decode cX8_finish 34 = .ok (.if_icmp .ge 37, 3) := by decide +kernel
theorem dX8_finish_37 : decode cX8_finish 37 = .ok (.iload_n 3, 1) := by decide +kernel
theorem dX8_finish_38 : decode cX8_finish 38 = .ok (.aload_n 0, 1) := by decide +kernel
theorem dX8_finish_39 : decode cX8_finish 39 = .ok (.getfield 18, 3) := by decide +kernel
theorem dX8_finish_42 : decode cX8_finish 42 = .ok (.aload_n 0, 1) := by decide +kernel
theorem dX8_finish_43 : decode cX8_finish 43 = .ok (.getfield 36, 3) := by decide +kernel
theorem dX8_finish_46 : decode cX8_finish 46 = .ok (.iload 4, 2) := by decide +kernel
theorem dX8_finish_48 : decode cX8_finish 48 = .ok (.iaload, 1) := by decide +kernel
theorem dX8_finish_49 : decode cX8_finish 49 = .ok (.iaload, 1) := by decide +kernel
theorem dX8_finish_50 : decode cX8_finish 50 = .ok (.ior, 1) := by decide +kernel
theorem dX8_finish_51 : decode cX8_finish 51 = .ok (.istore_n 3, 1) := by decide +kernel
theorem dX8_finish_52 : decode cX8_finish 52 = .ok (.aload_n 0, 1) := by decide +kernel
theorem dX8_finish_53 : decode cX8_finish 53 = .ok (.getfield 42, 3) := by decide +kernel
theorem dX8_finish_56 : decode cX8_finish 56 = .ok (.aload_n 0, 1) := by decide +kernel
theorem dX8_finish_57 : decode cX8_finish 57 = .ok (.getfield 36, 3) := by decide +kernel
theorem dX8_finish_60 : decode cX8_finish 60 = .ok (.iload 4, 2) := by decide +kernel
theorem dX8_finish_62 : decode cX8_finish 62 = .ok (.iaload, 1) := by decide +kernel
theorem dX8_finish_63 : decode cX8_finish 63 = .ok (.iconst 0, 1) := by decide +kernel
theorem dX8_finish_64 : decode cX8_finish 64 = .ok (.bastore, 1) := by decide +kernel
theorem dX8_finish_65 : decode cX8_finish 65 = .ok (.iinc 4 1, 3) := by decide +kernel
theorem dX8_finish_68 : decode cX8_finish 68 = .ok (.goto (-40), 3) := by decide +kernel
theorem dX8_finish_71 : decode cX8_finish 71 = .ok (.aload_n 0, 1) := by decide +kernel
theorem dX8_finish_72 : decode cX8_finish 72 = .ok (.getfield 119, 3) := by decide +kernel
theorem dX8_finish_75 : decode cX8_finish 75 = .ok (.iload_n 2, 1) := by decide +kernel
theorem dX8_finish_76 : decode cX8_finish 76 = .ok (.isub, 1) := by decide +kernel
theorem dX8_finish_77 : decode cX8_finish 77 = .ok (.iconst 1, 1) := by decide +kernel
theorem dX8_finish_78 : decode cX8_finish 78 = .ok (.if_icmp .gt 11, 3) := by decide +kernel
theorem dX8_finish_81 : decode cX8_finish 81 = .ok (.aload_n 0, 1) := by decide +kernel
theorem dX8_finish_82 : decode cX8_finish 82 = .ok (.iload_n 1, 1) := by decide +kernel
theorem dX8_finish_83 : decode cX8_finish 83 = .ok (.invokevirtual 140, 3) := by decide +kernel
theorem dX8_finish_86 : decode cX8_finish 86 = .ok (.ifCond .eq 7, 3) := by decide +kernel
theorem dX8_finish_89 : decode cX8_finish 89 = .ok (.iconst 1, 1) := by decide +kernel
theorem dX8_finish_90 : decode cX8_finish 90 = .ok (.goto 4, 3) := by decide +kernel
theorem dX8_finish_93 : decode cX8_finish 93 = .ok (.iconst 0, 1) := by decide +kernel
theorem dX8_finish_94 : decode cX8_finish 94 = .ok (.istore 4, 2) := by decide +kernel
theorem dX8_finish_96 : decode cX8_finish 96 = .ok (.iload_n 2, 1) := by decide +kernel
theorem dX8_finish_97 : decode cX8_finish 97 = .ok (.istore 5, 2) := by decide +kernel
theorem dX8_finish_99 : decode cX8_finish 99 = .ok (.iload 5, 2) := by decide +kernel
theorem dX8_finish_101 : decode cX8_finish 101 = .ok (.aload_n 0, 1) := by decide +kernel
theorem dX8_finish_102 : decode cX8_finish 102 = .ok (.getfield 119, 3) := by decide +kernel
theorem dX8_finish_105 : decode cX8_finish 105 = .ok (.if_icmp .ge 43, 3) := by decide +kernel
theorem dX8_finish_108 : decode cX8_finish 108 = .ok (.aload_n 0, 1) := by decide +kernel
theorem dX8_finish_109 : decode cX8_finish 109 = .ok (.getfield 46, 3) := by decide +kernel
theorem dX8_finish_112 : decode cX8_finish 112 = .ok (.aload_n 0, 1) := by decide +kernel
theorem dX8_finish_113 : decode cX8_finish 113 = .ok (.getfield 36, 3) := by decide +kernel
theorem dX8_finish_116 : decode cX8_finish 116 = .ok (.iload 5, 2) := by decide +kernel
theorem dX8_finish_118 : decode cX8_finish 118 = .ok (.iaload, 1) := by decide +kernel
theorem dX8_finish_119 : decode cX8_finish 119 = .ok (.iload 4, 2) := by decide +kernel
theorem dX8_finish_121 : decode cX8_finish 121 = .ok (.ifCond .eq 17, 3) := by decide +kernel
theorem dX8_finish_124 : decode cX8_finish 124 = .ok (.iload_n 3, 1) := by decide +kernel
theorem dX8_finish_125 : decode cX8_finish 125 = .ok (.aload_n 0, 1) := by decide +kernel
theorem dX8_finish_126 : decode cX8_finish 126 = .ok (.invokevirtual 93, 3) := by decide +kernel
theorem dX8_finish_129 : decode cX8_finish 129 = .ok (.iconst 1, 1) := by decide +kernel
theorem dX8_finish_130 : decode cX8_finish 130 = .ok (.isub, 1) := by decide +kernel
theorem dX8_finish_131 : decode cX8_finish 131 = .ok (.if_icmp .ne 7, 3) := by decide +kernel
theorem dX8_finish_134 : decode cX8_finish 134 = .ok (.iconst 0, 1) := by decide +kernel
theorem dX8_finish_135 : decode cX8_finish 135 = .ok (.goto 6, 3) := by decide +kernel
theorem dX8_finish_138 : decode cX8_finish 138 = .ok (.sipush 30000, 3) := by decide +kernel
theorem dX8_finish_141 : decode cX8_finish 141 = .ok (.iastore, 1) := by decide +kernel
theorem dX8_finish_142 : decode cX8_finish 142 = .ok (.iinc 5 1, 3) := by decide +kernel
theorem dX8_finish_145 : decode cX8_finish 145 = .ok (.goto (-46), 3) := by decide +kernel
theorem dX8_finish_148 : decode cX8_finish 148 = .ok (.aload_n 0, 1) := by decide +kernel
theorem dX8_finish_149 : decode cX8_finish 149 = .ok (.iload_n 2, 1) := by decide +kernel
theorem dX8_finish_150 : decode cX8_finish 150 = .ok (.putfield 119, 3) := by decide +kernel
theorem dX8_finish_153 : decode cX8_finish 153 = .ok (.return_, 1) := by decide +kernel
abbrev MX8_finish : zT := (yX8_finish, cX8_finish, 6, (Option.none : Option Jvm.ClassFile.FieldType), [])
theorem plX8_finish : zplain MX8_finish 1 ∧ (zcodeW MX8_finish ∈ lw_all ∧ Cond.initialized MX8_finish.1.cls ∈ lw_all) := ⟨⟨by decide +kernel, by decide +kernel⟩, q1773, q126⟩
noncomputable def f_X8_finish_148 (x0 x2 : Int) (σ : zM) : Option zO :=
  (zpf σ 814 x0 x2).bind fun σ1 =>
  some (0, ((3, 0) : zV), σ1)
theorem w_X8_finish_148 {g : zG} {lv : Nat} {out : zO} (x0 x2 : Int) (σ : zM) {r : zO} (h : f_X8_finish_148 x0 x2 σ = some r) (hk : (fun o : zO => o = out) r) : Gj g MX8_finish (lv + 1) 148 [(0, zr x0), (2, zi x2)] [] σ out := by
  revert h
  unfold f_X8_finish_148
  refine zst_ (gj_aload_n 0 (pc := 148) dX8_finish_148 rfl) ?_
  refine zst_ (gj_iload_n 1 (pc := 149) dX8_finish_149 rfl) ?_
  refine gb_put (pc := 150) fl814 fr814 dX8_finish_150 q779 (Or.inl rfl) (fun σ1 => ?_)
  intro h
  cases h
  have hk : (0, ((3, 0) : zV), σ1) = out := hk
  subst hk
  exact gj_vret (pc := 153) dX8_finish_153 rfl
noncomputable def f_X8_finish_141 (x0 x2 x3 x4 x5 t0 t1 t2 : Int) (σ : zM) : Option ((Int × zM) ⊕ zO) :=
  (zpa σ 101 t2 t1 t0).bind fun σ1 =>
  zlet (zadd x5 1) fun y2 =>
  some (.inl (y2, σ1))
theorem w_X8_finish_141 {g : zG} {lv : Nat} {out : zO} (x0 x2 x3 x4 x5 t0 t1 t2 : Int) (σ : zM) {r : ((Int × zM) ⊕ zO)} (h : f_X8_finish_141 x0 x2 x3 x4 x5 t0 t1 t2 σ = some r) (hk : (zKL (fun s : Int × zM => Gj g MX8_finish (lv + 1) 99 [(0, zr x0), (2, zi x2), (3, zi x3), (4, zi x4), (5, zi s.1)] [] s.2 out) (fun o : zO => o = out)) r) : Gj g MX8_finish (lv + 1) 141 [(0, zr x0), (2, zi x2), (3, zi x3), (4, zi x4), (5, zi x5)] [zi t0, zi t1, zr t2] σ out := by
  revert h
  unfold f_X8_finish_141
  refine gb_iast (pc := 141) dX8_finish_141 (fun σ1 => ?_)
  refine gb_iinc (pc := 142) 4 (fun y2 => [(5, zi y2), (0, zr x0), (2, zi x2), (3, zi x3), (4, zi x4)]) dX8_finish_142 rfl (by decide) (fun _ => rfl) (fun y2 => ?_)
  refine zst_ (gj_goto 99 (pc := 145) dX8_finish_145 (by decide)) ?_
  refine zst_ (gj_sub [1, 2, 3, 4, 0] rfl) ?_
  intro h
  cases h
  exact hk
noncomputable def f_X8_finish_138 (x0 x2 x3 x4 x5 t0 t1 : Int) (σ : zM) : Option ((Int × zM) ⊕ zO) :=
  f_X8_finish_141 x0 x2 x3 x4 x5 30000 t0 t1 σ
theorem w_X8_finish_138 {g : zG} {lv : Nat} {out : zO} (x0 x2 x3 x4 x5 t0 t1 : Int) (σ : zM) {r : ((Int × zM) ⊕ zO)} (h : f_X8_finish_138 x0 x2 x3 x4 x5 t0 t1 σ = some r) (hk : (zKL (fun s : Int × zM => Gj g MX8_finish (lv + 1) 99 [(0, zr x0), (2, zi x2), (3, zi x3), (4, zi x4), (5, zi s.1)] [] s.2 out) (fun o : zO => o = out)) r) : Gj g MX8_finish (lv + 1) 138 [(0, zr x0), (2, zi x2), (3, zi x3), (4, zi x4), (5, zi x5)] [zi t0, zr t1] σ out := by
  revert h
  unfold f_X8_finish_138
  refine zst_ (gj_sipush (pc := 138) dX8_finish_138 ⟨rfl, by decide⟩) ?_
  exact fun h => w_X8_finish_141 x0 x2 x3 x4 x5 30000 t0 t1 σ h hk
noncomputable def f_X8_finish_99_b (x0 x2 x3 x4 x5 : Int) (σ : zM) : Option ((Int × zM) ⊕ zO) :=
  (zgf σ 814 x0).bind fun v1 =>
  if v1 ≤ x5 then
    (f_X8_finish_148 x0 x2 σ).map (fun r => (.inr r))
  else
    (zgf σ 815 x0).bind fun v2 =>
    (zgf σ 810 x0).bind fun v3 =>
    (zga σ 101 v3 x5).bind fun v4 =>
    if x4 = 0 then
      f_X8_finish_138 x0 x2 x3 x4 x5 v4 v2 σ
    else
      zgd (zis σ 9 x0) <|
      zci (f_X8_kinds x0 σ) fun v5 σ6 =>
      if x3 ≠ (zsub v5 1) then
        f_X8_finish_138 x0 x2 x3 x4 x5 v4 v2 σ6
      else
        f_X8_finish_141 x0 x2 x3 x4 x5 0 v4 v2 σ6
noncomputable def f_X8_finish_99 (x0 x2 x3 x4 x5 : Int) (σ : zM) : Option zO :=
  zloop (fun s : Int × zM => f_X8_finish_99_b x0 x2 x3 x4 s.1 s.2) (x5, σ)
theorem w_X8_finish_99_b {g : zG} {lv : Nat} {out : zO} (x0 x2 x3 x4 x5 : Int) (σ : zM) {r : ((Int × zM) ⊕ zO)} (h : f_X8_finish_99_b x0 x2 x3 x4 x5 σ = some r) (hk : (zKL (fun s : Int × zM => Gj g MX8_finish (lv + 1) 99 [(0, zr x0), (2, zi x2), (3, zi x3), (4, zi x4), (5, zi s.1)] [] s.2 out) (fun o : zO => o = out)) r) : Gj g MX8_finish (lv + 1) 99 [(0, zr x0), (2, zi x2), (3, zi x3), (4, zi x4), (5, zi x5)] [] σ out := by
  revert h
  unfold f_X8_finish_99_b
  refine zst_ (gj_iload 4 (pc := 99) dX8_finish_99 rfl) ?_
  refine zst_ (gj_aload_n 0 (pc := 101) dX8_finish_101 rfl) ?_
  refine gb_get (pc := 102) fl814 dX8_finish_102 q779 (Or.inl rfl) (fun v1 => ?_)
  refine gb_if (gj_icmp_ge 148 (pc := 105) dX8_finish_105 (by decide)) ?_ ?_
  · refine zst_ (gj_sub [0, 1] rfl) ?_
    intro h
    obtain ⟨r0, h0, rfl⟩ := zmE h
    exact w_X8_finish_148 x0 x2 σ h0 hk
  · refine zst_ (gj_aload_n 0 (pc := 108) dX8_finish_108 rfl) ?_
    refine gb_get (pc := 109) fl815 dX8_finish_109 q780 (Or.inl rfl) (fun v2 => ?_)
    refine zst_ (gj_aload_n 0 (pc := 112) dX8_finish_112 rfl) ?_
    refine gb_get (pc := 113) fl810 dX8_finish_113 q775 (Or.inl rfl) (fun v3 => ?_)
    refine zst_ (gj_iload 4 (pc := 116) dX8_finish_116 rfl) ?_
    refine gb_iald (pc := 118) dX8_finish_118 (fun v4 => ?_)
    refine zst_ (gj_iload 3 (pc := 119) dX8_finish_119 rfl) ?_
    refine gb_if (gj_if_eq 138 (pc := 121) dX8_finish_121 (by decide)) ?_ ?_
    · exact fun h => w_X8_finish_138 x0 x2 x3 x4 x5 v4 v2 σ h hk
    · refine zst_ (gj_iload_n 2 (pc := 124) dX8_finish_124 rfl) ?_
      refine zst_ (gj_aload_n 0 (pc := 125) dX8_finish_125 rfl) ?_
      refine gb_gd (fun hb => ?_)
      refine gb_callI (pc := 126) (as := [zr x0]) (rest := [zi x3, zi v4, zr v2]) (zCl.of (zLk_V (M := MX8_finish) (ci := 8) (r := (RX8, TX8, 23)) plX8_kinds.1 rfl rfl (zisE hb).1 (zisE hb).2 dX8_finish_126 q1699 q1701 qs30 q1702) plX8_kinds (Nat.le_of_ble_eq_true rfl) (fun h => c_X8_kinds h)) (fun v5 σ6 => ?_)
      refine zst_ (gj_iconst (pc := 129) dX8_finish_129 (by decide)) ?_
      refine zst_ (gj_isub (pc := 130) dX8_finish_130) ?_
      refine gb_if (gj_icmp_ne 138 (pc := 131) dX8_finish_131 (by decide)) ?_ ?_
      · exact fun h => w_X8_finish_138 x0 x2 x3 x4 x5 v4 v2 σ6 h hk
      · refine zst_ (gj_iconst (pc := 134) dX8_finish_134 (by decide)) ?_
        refine zst_ (gj_goto 141 (pc := 135) dX8_finish_135 (by decide)) ?_
        exact fun h => w_X8_finish_141 x0 x2 x3 x4 x5 0 v4 v2 σ6 h hk
theorem w_X8_finish_99 {g : zG} {lv : Nat} {out : zO} (x0 x2 x3 x4 x5 : Int) (σ : zM) {r : zO} (h : f_X8_finish_99 x0 x2 x3 x4 x5 σ = some r) (hk : (fun o : zO => o = out) r) : Gj g MX8_finish (lv + 1) 99 [(0, zr x0), (2, zi x2), (3, zi x3), (4, zi x4), (5, zi x5)] [] σ out :=
  gj_loop (P := (fun s : Int × zM => Gj g MX8_finish (lv + 1) 99 [(0, zr x0), (2, zi x2), (3, zi x3), (4, zi x4), (5, zi s.1)] [] s.2 out)) (fun s x hb hx => w_X8_finish_99_b x0 x2 x3 x4 s.1 s.2 hb hx) h hk
noncomputable def f_X8_finish_94 (x0 x2 x3 t0 : Int) (σ : zM) : Option zO :=
  f_X8_finish_99 x0 x2 x3 t0 x2 σ
theorem w_X8_finish_94 {g : zG} {lv : Nat} {out : zO} (x0 x2 x3 t0 : Int) (σ : zM) {r : zO} (h : f_X8_finish_94 x0 x2 x3 t0 σ = some r) (hk : (fun o : zO => o = out) r) : Gj g MX8_finish (lv + 1) 94 [(0, zr x0), (2, zi x2), (3, zi x3)] [zi t0] σ out := by
  revert h
  unfold f_X8_finish_94
  refine zst_ (gj_istore (pc := 94) (ls' := [(4, zi t0), (0, zr x0), (2, zi x2), (3, zi x3)]) dX8_finish_94 (by decide) rfl) ?_
  refine zst_ (gj_iload_n 2 (pc := 96) dX8_finish_96 rfl) ?_
  refine zst_ (gj_istore (pc := 97) (ls' := [(5, zi x2), (4, zi t0), (0, zr x0), (2, zi x2), (3, zi x3)]) dX8_finish_97 (by decide) rfl) ?_
  refine zst_ (gj_sub [2, 3, 4, 1, 0] rfl) ?_
  exact fun h => w_X8_finish_99 x0 x2 x3 t0 x2 σ h hk
noncomputable def f_X8_finish_89 (x0 x2 x3 : Int) (σ : zM) : Option zO :=
  f_X8_finish_94 x0 x2 x3 1 σ
theorem w_X8_finish_89 {g : zG} {lv : Nat} {out : zO} (x0 x2 x3 : Int) (σ : zM) {r : zO} (h : f_X8_finish_89 x0 x2 x3 σ = some r) (hk : (fun o : zO => o = out) r) : Gj g MX8_finish (lv + 1) 89 [(0, zr x0), (2, zi x2), (3, zi x3)] [] σ out := by
  revert h
  unfold f_X8_finish_89
  refine zst_ (gj_iconst (pc := 89) dX8_finish_89 (by decide)) ?_
  refine zst_ (gj_goto 94 (pc := 90) dX8_finish_90 (by decide)) ?_
  exact fun h => w_X8_finish_94 x0 x2 x3 1 σ h hk
noncomputable def f_X8_finish_71 (x0 x1 x2 x3 : Int) (σ : zM) : Option zO :=
  (zgf σ 814 x0).bind fun v1 =>
  if 1 < (zsub v1 x2) then
    f_X8_finish_89 x0 x2 x3 σ
  else
    zgd (zis σ 9 x0) <|
    zci (f_X8_loops x0 x1 σ) fun v2 σ3 =>
    if v2 = 0 then
      f_X8_finish_94 x0 x2 x3 0 σ3
    else
      f_X8_finish_89 x0 x2 x3 σ3
theorem w_X8_finish_71 {g : zG} {lv : Nat} {out : zO} (x0 x1 x2 x3 : Int) (σ : zM) {r : zO} (h : f_X8_finish_71 x0 x1 x2 x3 σ = some r) (hk : (fun o : zO => o = out) r) : Gj g MX8_finish (lv + 1) 71 [(0, zr x0), (1, zi x1), (2, zi x2), (3, zi x3)] [] σ out := by
  revert h
  unfold f_X8_finish_71
  refine zst_ (gj_aload_n 0 (pc := 71) dX8_finish_71 rfl) ?_
  refine gb_get (pc := 72) fl814 dX8_finish_72 q779 (Or.inl rfl) (fun v1 => ?_)
  refine zst_ (gj_iload_n 2 (pc := 75) dX8_finish_75 rfl) ?_
  refine zst_ (gj_isub (pc := 76) dX8_finish_76) ?_
  refine zst_ (gj_iconst (pc := 77) dX8_finish_77 (by decide)) ?_
  refine gb_if (gj_icmp_gt 89 (pc := 78) dX8_finish_78 (by decide)) ?_ ?_
  · refine zst_ (gj_sub [0, 2, 3] rfl) ?_
    exact fun h => w_X8_finish_89 x0 x2 x3 σ h hk
  · refine zst_ (gj_aload_n 0 (pc := 81) dX8_finish_81 rfl) ?_
    refine zst_ (gj_iload_n 1 (pc := 82) dX8_finish_82 rfl) ?_
    refine gb_gd (fun hb => ?_)
    refine gb_callI (pc := 83) (as := [zr x0, zi x1]) (rest := []) (zCl.of (zLk_V (M := MX8_finish) (ci := 8) (r := (RX8, TX8, 23)) plX8_loops.1 rfl rfl (zisE hb).1 (zisE hb).2 dX8_finish_83 q1774 q1776 qs36 q1777) plX8_loops (Nat.le_of_ble_eq_true rfl) (fun h => c_X8_loops h)) (fun v2 σ3 => ?_)
    refine gb_if (gj_if_eq 93 (pc := 86) dX8_finish_86 (by decide)) ?_ ?_
    · refine zst_ (gj_iconst (pc := 93) dX8_finish_93 (by decide)) ?_
      refine zst_ (gj_sub [0, 2, 3] rfl) ?_
      exact fun h => w_X8_finish_94 x0 x2 x3 0 σ3 h hk
    · refine zst_ (gj_sub [0, 2, 3] rfl) ?_
      exact fun h => w_X8_finish_89 x0 x2 x3 σ3 h hk
noncomputable def f_X8_finish_28_b (x0 x1 x2 x3 x4 : Int) (σ : zM) : Option ((Int × Int × zM) ⊕ zO) :=
  (zgf σ 814 x0).bind fun v1 =>
  if v1 ≤ x4 then
    (f_X8_finish_71 x0 x1 x2 x3 σ).map (fun r => (.inr r))
  else
    (zgf σ 804 x0).bind fun v2 =>
    (zgf σ 810 x0).bind fun v3 =>
    (zga σ 101 v3 x4).bind fun v4 =>
    (zga σ 101 v2 v4).bind fun v5 =>
    zlet ((zor x3 v5)) fun y6 =>
    (zgf σ 812 x0).bind fun v7 =>
    (zgf σ 810 x0).bind fun v8 =>
    (zga σ 101 v8 x4).bind fun v9 =>
    zgd (z01 0) <|
    (zpa σ 103 v7 v9 0).bind fun σ10 =>
    zlet (zadd x4 1) fun y11 =>
    some (.inl (y6, y11, σ10))
noncomputable def f_X8_finish_28 (x0 x1 x2 x3 x4 : Int) (σ : zM) : Option zO :=
  zloop (fun s : Int × Int × zM => f_X8_finish_28_b x0 x1 x2 s.1 s.2.1 s.2.2) (x3, x4, σ)
theorem w_X8_finish_28_b {g : zG} {lv : Nat} {out : zO} (x0 x1 x2 x3 x4 : Int) (σ : zM) {r : ((Int × Int × zM) ⊕ zO)} (h : f_X8_finish_28_b x0 x1 x2 x3 x4 σ = some r) (hk : (zKL (fun s : Int × Int × zM => Gj g MX8_finish (lv + 1) 28 [(0, zr x0), (1, zi x1), (2, zi x2), (3, zi s.1), (4, zi s.2.1)] [] s.2.2 out) (fun o : zO => o = out)) r) : Gj g MX8_finish (lv + 1) 28 [(0, zr x0), (1, zi x1), (2, zi x2), (3, zi x3), (4, zi x4)] [] σ out := by
  revert h
  unfold f_X8_finish_28_b
  refine zst_ (gj_iload 4 (pc := 28) dX8_finish_28 rfl) ?_
  refine zst_ (gj_aload_n 0 (pc := 30) dX8_finish_30 rfl) ?_
  refine gb_get (pc := 31) fl814 dX8_finish_31 q779 (Or.inl rfl) (fun v1 => ?_)
  refine gb_if (gj_icmp_ge 71 (pc := 34) dX8_finish_34 (by decide)) ?_ ?_
  · refine zst_ (gj_sub [0, 1, 2, 3] rfl) ?_
    intro h
    obtain ⟨r0, h0, rfl⟩ := zmE h
    exact w_X8_finish_71 x0 x1 x2 x3 σ h0 hk
  · refine zst_ (gj_iload_n 3 (pc := 37) dX8_finish_37 rfl) ?_
    refine zst_ (gj_aload_n 0 (pc := 38) dX8_finish_38 rfl) ?_
    refine gb_get (pc := 39) fl804 dX8_finish_39 q769 (Or.inl rfl) (fun v2 => ?_)
    refine zst_ (gj_aload_n 0 (pc := 42) dX8_finish_42 rfl) ?_
    refine gb_get (pc := 43) fl810 dX8_finish_43 q775 (Or.inl rfl) (fun v3 => ?_)
    refine zst_ (gj_iload 4 (pc := 46) dX8_finish_46 rfl) ?_
    refine gb_iald (pc := 48) dX8_finish_48 (fun v4 => ?_)
    refine gb_iald (pc := 49) dX8_finish_49 (fun v5 => ?_)
    refine zst_ (gj_ior (pc := 50) dX8_finish_50) ?_
    refine gb_let (fun y6 => ?_)
    refine zst_ (gj_istore_n (pc := 51) (ls' := [(3, zi y6), (0, zr x0), (1, zi x1), (2, zi x2), (4, zi x4)]) dX8_finish_51 (by decide) rfl) ?_
    refine zst_ (gj_aload_n 1 (pc := 52) dX8_finish_52 rfl) ?_
    refine gb_get (pc := 53) fl812 dX8_finish_53 q777 (Or.inl rfl) (fun v7 => ?_)
    refine zst_ (gj_aload_n 1 (pc := 56) dX8_finish_56 rfl) ?_
    refine gb_get (pc := 57) fl810 dX8_finish_57 q775 (Or.inl rfl) (fun v8 => ?_)
    refine zst_ (gj_iload 4 (pc := 60) dX8_finish_60 rfl) ?_
    refine gb_iald (pc := 62) dX8_finish_62 (fun v9 => ?_)
    refine zst_ (gj_iconst (pc := 63) dX8_finish_63 (by decide)) ?_
    refine gb_gd (fun hb => ?_)
    refine gb_zast (pc := 64) (z01E hb) dX8_finish_64 (fun σ10 => ?_)
    refine gb_iinc (pc := 65) 4 (fun y11 => [(4, zi y11), (3, zi y6), (0, zr x0), (1, zi x1), (2, zi x2)]) dX8_finish_65 rfl (by decide) (fun _ => rfl) (fun y11 => ?_)
    refine zst_ (gj_goto 28 (pc := 68) dX8_finish_68 (by decide)) ?_
    refine zst_ (gj_sub [2, 3, 4, 1, 0] rfl) ?_
    intro h
    cases h
    exact hk
theorem w_X8_finish_28 {g : zG} {lv : Nat} {out : zO} (x0 x1 x2 x3 x4 : Int) (σ : zM) {r : zO} (h : f_X8_finish_28 x0 x1 x2 x3 x4 σ = some r) (hk : (fun o : zO => o = out) r) : Gj g MX8_finish (lv + 1) 28 [(0, zr x0), (1, zi x1), (2, zi x2), (3, zi x3), (4, zi x4)] [] σ out :=
  gj_loop (P := (fun s : Int × Int × zM => Gj g MX8_finish (lv + 1) 28 [(0, zr x0), (1, zi x1), (2, zi x2), (3, zi s.1), (4, zi s.2.1)] [] s.2.2 out)) (fun s x hb hx => w_X8_finish_28_b x0 x1 x2 s.1 s.2.1 s.2.2 hb hx) h hk
noncomputable def f_X8_finish_25 (x0 x1 x2 x3 : Int) (σ : zM) : Option zO :=
  f_X8_finish_28 x0 x1 x2 x3 x2 σ
theorem w_X8_finish_25 {g : zG} {lv : Nat} {out : zO} (x0 x1 x2 x3 : Int) (σ : zM) {r : zO} (h : f_X8_finish_25 x0 x1 x2 x3 σ = some r) (hk : (fun o : zO => o = out) r) : Gj g MX8_finish (lv + 1) 25 [(0, zr x0), (1, zi x1), (2, zi x2), (3, zi x3)] [] σ out := by
  revert h
  unfold f_X8_finish_25
  refine zst_ (gj_iload_n 2 (pc := 25) dX8_finish_25 rfl) ?_
  refine zst_ (gj_istore (pc := 26) (ls' := [(4, zi x2), (0, zr x0), (1, zi x1), (2, zi x2), (3, zi x3)]) dX8_finish_26 (by decide) rfl) ?_
  refine zst_ (gj_sub [1, 2, 3, 4, 0] rfl) ?_
  exact fun h => w_X8_finish_28 x0 x1 x2 x3 x2 σ h hk
noncomputable def f_X8_finish_9_b (x0 x1 x2 x3 : Int) (σ : zM) : Option ((Int) ⊕ zO) :=
  (zgf σ 810 x0).bind fun v1 =>
  (zga σ 101 v1 x2).bind fun v2 =>
  if v2 = x1 then
    (f_X8_finish_25 x0 x1 x2 x3 σ).map (fun r => (.inr r))
  else
    zlet (zadd x2 (-1)) fun y3 =>
    some (.inl y3)
noncomputable def f_X8_finish_9 (x0 x1 x2 x3 : Int) (σ : zM) : Option zO :=
  zloop (fun s : Int => f_X8_finish_9_b x0 x1 s x3 σ) x2
theorem w_X8_finish_9_b {g : zG} {lv : Nat} {out : zO} (x0 x1 x2 x3 : Int) (σ : zM) {r : ((Int) ⊕ zO)} (h : f_X8_finish_9_b x0 x1 x2 x3 σ = some r) (hk : (zKL (fun s : Int => Gj g MX8_finish (lv + 1) 9 [(0, zr x0), (1, zi x1), (2, zi s), (3, zi x3)] [] σ out) (fun o : zO => o = out)) r) : Gj g MX8_finish (lv + 1) 9 [(0, zr x0), (1, zi x1), (2, zi x2), (3, zi x3)] [] σ out := by
  revert h
  unfold f_X8_finish_9_b
  refine zst_ (gj_aload_n 0 (pc := 9) dX8_finish_9 rfl) ?_
  refine gb_get (pc := 10) fl810 dX8_finish_10 q775 (Or.inl rfl) (fun v1 => ?_)
  refine zst_ (gj_iload_n 2 (pc := 13) dX8_finish_13 rfl) ?_
  refine gb_iald (pc := 14) dX8_finish_14 (fun v2 => ?_)
  refine zst_ (gj_iload_n 1 (pc := 15) dX8_finish_15 rfl) ?_
  refine gb_if (gj_icmp_eq 25 (pc := 16) dX8_finish_16 (by decide)) ?_ ?_
  · intro h
    obtain ⟨r0, h0, rfl⟩ := zmE h
    exact w_X8_finish_25 x0 x1 x2 x3 σ h0 hk
  · refine gb_iinc (pc := 19) 2 (fun y3 => [(2, zi y3), (0, zr x0), (1, zi x1), (3, zi x3)]) dX8_finish_19 rfl (by decide) (fun _ => rfl) (fun y3 => ?_)
    refine zst_ (gj_goto 9 (pc := 22) dX8_finish_22 (by decide)) ?_
    refine zst_ (gj_sub [1, 2, 0, 3] rfl) ?_
    intro h
    cases h
    exact hk
theorem w_X8_finish_9 {g : zG} {lv : Nat} {out : zO} (x0 x1 x2 x3 : Int) (σ : zM) {r : zO} (h : f_X8_finish_9 x0 x1 x2 x3 σ = some r) (hk : (fun o : zO => o = out) r) : Gj g MX8_finish (lv + 1) 9 [(0, zr x0), (1, zi x1), (2, zi x2), (3, zi x3)] [] σ out :=
  gj_loop (P := (fun s : Int => Gj g MX8_finish (lv + 1) 9 [(0, zr x0), (1, zi x1), (2, zi s), (3, zi x3)] [] σ out)) (fun s x hb hx => w_X8_finish_9_b x0 x1 s x3 σ hb hx) h hk
noncomputable def f_X8_finish (x0 x1 : Int) (σ : zM) : Option zO :=
  (zgf σ 814 x0).bind fun v1 =>
  zlet ((zsub v1 1)) fun y2 =>
  f_X8_finish_9 x0 x1 y2 0 σ
theorem c_X8_finish {g : zG} {lv : Nat} {x0 x1 : Int} {σ : zM} {out : zO} (h : f_X8_finish x0 x1 σ = some out) : Cj g (lv + 1) MX8_finish [zr x0, zi x1] σ out := by
  refine cj_go (ls := [(0, zr x0), (1, zi x1)]) (by decide) (Nat.le_of_ble_eq_true rfl) rfl (zgen h (fun r hk => ?_))
  unfold f_X8_finish
  refine zst_ (gj_aload_n 0 (pc := 0) dX8_finish_0 rfl) ?_
  refine gb_get (pc := 1) fl814 dX8_finish_1 q779 (Or.inl rfl) (fun v1 => ?_)
  refine zst_ (gj_iconst (pc := 4) dX8_finish_4 (by decide)) ?_
  refine zst_ (gj_isub (pc := 5) dX8_finish_5) ?_
  refine gb_let (fun y2 => ?_)
  refine zst_ (gj_istore_n (pc := 6) (ls' := [(2, zi y2), (0, zr x0), (1, zi x1)]) dX8_finish_6 (by decide) rfl) ?_
  refine zst_ (gj_iconst (pc := 7) dX8_finish_7 (by decide)) ?_
  refine zst_ (gj_istore_n (pc := 8) (ls' := [(3, zi 0), (2, zi y2), (0, zr x0), (1, zi x1)]) dX8_finish_8 (by decide) rfl) ?_
  refine zst_ (gj_sub [2, 3, 1, 0] rfl) ?_
  exact fun h => w_X8_finish_9 x0 x1 y2 0 σ h hk
theorem q776 : (Jvm.Cond.fieldLink "LassoFinder$Search" (39 : Nat) "LassoFinder$Search" "path" "[I") ∈ lw_all := lw_g (lw_at lw_m3 196 rfl) rfl
theorem q1759 : (Jvm.Cond.code ({ cls := "LassoFinder$Search", name := "explore", desc := "(I)V" } : Jvm.MethodName) prog_18_method_7_code (5 : Nat) (Option.none : Option Jvm.ClassFile.FieldType)) ∈ lw_all := lw_g (lw_at lw_m7 219 rfl) rfl
theorem q1760 : (Jvm.Cond.methodLink "LassoFinder$Search" (126 : Nat) ({ cls := "LassoFinder$Search", name := "enter", desc := "(I)V" } : Jvm.MethodName)) ∈ lw_all := lw_g (lw_at lw_m7 220 rfl) rfl
theorem q1762 : (Jvm.Cond.instanceMethod ({ cls := "LassoFinder$Search", name := "enter", desc := "(I)V" } : Jvm.MethodName)) ∈ lw_all := lw_g (lw_at lw_m7 222 rfl) rfl
theorem q1764 : (Jvm.Cond.methodLink "LassoFinder$Search" (129 : Nat) ({ cls := "LassoFinder$Search", name := "following", desc := "(I)I" } : Jvm.MethodName)) ∈ lw_all := lw_g (lw_at lw_m7 224 rfl) rfl
theorem q1766 : (Jvm.Cond.instanceMethod ({ cls := "LassoFinder$Search", name := "following", desc := "(I)I" } : Jvm.MethodName)) ∈ lw_all := lw_g (lw_at lw_m7 226 rfl) rfl
theorem q1769 : (Jvm.Cond.methodLink "LassoFinder$Search" (132 : Nat) ({ cls := "java/lang/Math", name := "min", desc := "(II)I" } : Jvm.MethodName)) ∈ lw_all := lw_g (lw_at lw_m7 229 rfl) rfl
theorem q1770 : (Jvm.Cond.methodLink "LassoFinder$Search" (137 : Nat) ({ cls := "LassoFinder$Search", name := "finish", desc := "(I)V" } : Jvm.MethodName)) ∈ lw_all := lw_g (lw_at lw_m7 230 rfl) rfl
theorem q1772 : (Jvm.Cond.instanceMethod ({ cls := "LassoFinder$Search", name := "finish", desc := "(I)V" } : Jvm.MethodName)) ∈ lw_all := lw_g (lw_at lw_m7 232 rfl) rfl
theorem fl811 : zfl 811 2 "LassoFinder$Search" "path" "[I" true := ⟨rfl, rfl, rfl⟩
theorem fr811 {g : zG} {v : Int} : zok g (2, v) → zokt g (zft 811) v := fun h => h
abbrev cX8_explore : ByteArray := prog_18_method_7_code
def yX8_explore : MethodName := ⟨RX8, "explore", "(I)V"⟩
theorem dX8_explore_0 : decode cX8_explore 0 = .ok (.iconst 0, 1) := by decide +kernel
theorem dX8_explore_1 : decode cX8_explore 1 = .ok (.istore_n 2, 1) := by decide +kernel
theorem dX8_explore_2 : decode cX8_explore 2 = .ok (.aload_n 0, 1) := by decide +kernel
theorem dX8_explore_3 : decode cX8_explore 3 = .ok (.getfield 39, 3) := by decide +kernel
theorem dX8_explore_6 : decode cX8_explore 6 = .ok (.iconst 0, 1) := by decide +kernel
theorem dX8_explore_7 : decode cX8_explore 7 = .ok (.iload_n 1, 1) := by decide +kernel
theorem dX8_explore_8 : decode cX8_explore 8 = .ok (.iastore, 1) := by decide +kernel
theorem dX8_explore_9 : decode cX8_explore 9 = .ok (.aload_n 0, 1) := by decide +kernel
theorem dX8_explore_10 : decode cX8_explore 10 = .ok (.iload_n 1, 1) := by decide +kernel
theorem dX8_explore_11 : decode cX8_explore 11 = .ok (.invokevirtual 126, 3) := by decide +kernel
theorem dX8_explore_14 : decode cX8_explore 14 = .ok (.iload_n 2, 1) := by decide +kernel
theorem dX8_explore_15 : decode cX8_explore 15 = .ok (.ifCond .lt 155, 3) := by decide +kernel
theorem dX8_explore_18 : decode cX8_explore 18 = .ok (.aload_n 0, 1) := by decide +kernel
theorem dX8_explore_19 : decode cX8_explore 19 = .ok (.getfield 39, 3) := by decide +kernel
theorem dX8_explore_22 : decode cX8_explore 22 = .ok (.iload_n 2, 1) := by decide +kernel
theorem dX8_explore_23 : decode cX8_explore 23 = .ok (.iaload, 1) := by decide +kernel
theorem dX8_explore_24 : decode cX8_explore 24 = .ok (.istore_n 3, 1) := by decide +kernel
theorem dX8_explore_25 : decode cX8_explore 25 = .ok (.aload_n 0, 1) := by decide +kernel
theorem dX8_explore_26 : decode cX8_explore 26 = .ok (.iload_n 3, 1) := by decide +kernel
theorem dX8_explore_27 : decode cX8_explore 27 = .ok (.invokevirtual 129, 3) := by decide +kernel
theorem dX8_explore_30 : decode cX8_explore 30 = .ok (.istore 4, 2) := by decide +kernel
theorem dX8_explore_32 : decode cX8_explore 32 = .ok (.iload 4, 2) := by decide +kernel
theorem dX8_explore_34 : decode cX8_explore 34 = .ok (.iconst (-1), 1) := by decide +kernel
theorem dX8_explore_35 : decode cX8_explore 35 = .ok (.if_icmp .eq 33, 3) := by decide +kernel
theorem dX8_explore_38 : decode cX8_explore 38 = .ok (.aload_n 0, 1) := by decide +kernel
theorem dX8_explore_39 : decode cX8_explore 39 = .ok (.getfield 27, 3) := by decide +kernel
theorem dX8_explore_42 : decode cX8_explore 42 = .ok (.iload 4, 2) := by decide +kernel
theorem dX8_explore_44 : decode cX8_explore 44 = .ok (.iaload, 1) := by decide +kernel
theorem dX8_explore_45 : decode cX8_explore 45 = .ok (.ifCond .ne 23, 3) := by decide +kernel
theorem dX8_explore_48 : decode cX8_explore 48 = .ok (.iinc 2 1, 3) := by decide +kernel
theorem dX8_explore_51 : decode cX8_explore 51 = .ok (.aload_n 0, 1) := by decide +kernel
theorem dX8_explore_52 : decode cX8_explore 52 = .ok (.getfield 39, 3) := by decide +kernel
theorem dX8_explore_55 : decode cX8_explore 55 = .ok (.iload_n 2, 1) := by decide +kernel
theorem dX8_explore_56 : decode cX8_explore 56 = .ok (.iload 4, 2) := by decide +kernel
theorem dX8_explore_58 : decode cX8_explore 58 = .ok (.iastore, 1) := by decide +kernel
theorem dX8_explore_59 : decode cX8_explore 59 = .ok (.aload_n 0, 1) := by decide +kernel
theorem dX8_explore_60 : decode cX8_explore 60 = .ok (.iload 4, 2) := by decide +kernel
theorem dX8_explore_62 : decode cX8_explore 62 = .ok (.invokevirtual 126, 3) := by decide +kernel
theorem dX8_explore_65 : decode cX8_explore 65 = .ok (.goto 102, 3) := by decide +kernel
theorem dX8_explore_68 : decode cX8_explore 68 = .ok (.iload 4, 2) := by decide +kernel
theorem dX8_explore_70 : decode cX8_explore 70 = .ok (.iconst (-1), 1) := by decide +kernel
theorem dX8_explore_71 : decode cX8_explore 71 = .ok (.if_icmp .eq 38, 3) := by decide +kernel
theorem dX8_explore_74 : decode cX8_explore 74 = .ok (.aload_n 0, 1) := by decide +kernel
theorem dX8_explore_75 : decode cX8_explore 75 = .ok (.getfield 42, 3) := by decide +kernel
theorem dX8_explore_78 : decode cX8_explore 78 = .ok (.iload 4, 2) := by decide +kernel
theorem dX8_explore_80 : decode cX8_explore 80 = .ok (.baload, 1) := by decide +kernel
theorem dX8_explore_81 : decode cX8_explore 81 = .ok (.ifCond .eq 86, 3) := by decide +kernel
theorem dX8_explore_84 : decode cX8_explore 84 = .ok (.aload_n 0, 1) := by decide +kernel
theorem dX8_explore_85 : decode cX8_explore 85 = .ok (.getfield 30, 3) := by decide +kernel
theorem dX8_explore_88 : decode cX8_explore 88 = .ok (.iload_n 3, 1) := by decide +kernel
theorem dX8_explore_89 : decode cX8_explore 89 = .ok (.aload_n 0, 1) := by decide +kernel
theorem dX8_explore_90 : decode cX8_explore 90 = .ok (.getfield 30, 3) := by decide +kernel
theorem dX8_explore_93 : decode cX8_explore 93 = .ok (.iload_n 3, 1) := by decide +kernel
theorem dX8_explore_94 : decode cX8_explore 94 = .ok (.iaload, 1) := by decide +kernel
theorem dX8_explore_95 : decode cX8_explore 95 = .ok (.aload_n 0, 1) := by decide +kernel
theorem dX8_explore_96 : decode cX8_explore 96 = .ok (.getfield 27, 3) := by decide +kernel
theorem dX8_explore_99 : decode cX8_explore 99 = .ok (.iload 4, 2) := by decide +kernel
theorem dX8_explore_101 : decode cX8_explore 101 = .ok (.iaload, 1) := by decide +kernel
theorem dX8_explore_102 : decode cX8_explore 102 = .ok (.invokestatic 132, 3) := by decide +kernel
theorem dX8_explore_105 : decode cX8_explore 105 = .ok (.iastore, 1) := by decide +kernel
theorem dX8_explore_106 : decode cX8_explore 106 = .ok (.goto 61, 3) := by decide +kernel
theorem dX8_explore_109 : decode cX8_explore 109 = .ok (.aload_n 0, 1) := by decide +kernel
theorem dX8_explore_110 : decode cX8_explore 110 = .ok (.getfield 30, 3) := by decide +kernel
theorem dX8_explore_113 : decode cX8_explore 113 = .ok (.iload_n 3, 1) := by decide +kernel
theorem dX8_explore_114 : decode cX8_explore 114 = .ok (.iaload, 1) := by decide +kernel
theorem dX8_explore_115 : decode cX8_explore 115 = .ok (.aload_n 0, 1) := by decide +kernel
theorem dX8_explore_116 : decode cX8_explore 116 = .ok (.getfield 27, 3) := by decide +kernel
theorem dX8_explore_119 : decode cX8_explore 119 = .ok (.iload_n 3, 1) := by decide +kernel
theorem dX8_explore_120 : decode cX8_explore 120 = .ok (.iaload, 1) := by decide +kernel
theorem dX8_explore_121 : decode cX8_explore 121 = .ok (.if_icmp .ne 8, 3) := by decide +kernel
theorem dX8_explore_124 : decode cX8_explore 124 = .ok (.aload_n 0, 1) := by decide +kernel
theorem dX8_explore_125 : decode cX8_explore 125 = .ok (.iload_n 3, 1) := by decide +kernel
theorem dX8_explore_126 : decode cX8_explore 126 = .ok (.invokevirtual 137, 3) := by decide +kernel
theorem dX8_explore_129 : decode cX8_explore 129 = .ok (.iinc 2 (-1), 3) := by decide +kernel
theorem dX8_explore_132 : decode cX8_explore 132 = .ok (.iload_n 2, 1) := by decide +kernel
theorem dX8_explore_133 : decode cX8_explore 133 = .ok (.ifCond .lt 34, 3) := by decide +kernel
theorem dX8_explore_136 : decode cX8_explore 136 = .ok (.aload_n 0, 1) := by decide +kernel
theorem dX8_explore_137 : decode cX8_explore 137 = .ok (.getfield 30, 3) := by decide +kernel
theorem dX8_explore_140 : decode cX8_explore 140 = .ok (.aload_n 0, 1) := by decide +kernel
theorem dX8_explore_141 : decode cX8_explore 141 = .ok (.getfield 39, 3) := by decide +kernel
theorem dX8_explore_144 : decode cX8_explore 144 = .ok (.iload_n 2, 1) := by decide +kernel
theorem dX8_explore_145 : decode cX8_explore 145 = .ok (.iaload, 1) := by decide +kernel
theorem dX8_explore_146 : decode cX8_explore 146 = .ok (.aload_n 0, 1) := by decide +kernel
theorem dX8_explore_147 : decode cX8_explore 147 = .ok (.getfield 30, 3) := by decide +kernel
theorem dX8_explore_150 : decode cX8_explore 150 = .ok (.aload_n 0, 1) := by decide +kernel
theorem dX8_explore_151 : decode cX8_explore 151 = .ok (.getfield 39, 3) := by decide +kernel
theorem dX8_explore_154 : decode cX8_explore 154 = .ok (.iload_n 2, 1) := by decide +kernel
theorem dX8_explore_155 : decode cX8_explore 155 = .ok (.iaload, 1) := by decide +kernel
theorem dX8_explore_156 : decode cX8_explore 156 = .ok (.iaload, 1) := by decide +kernel
theorem dX8_explore_157 : decode cX8_explore 157 = .ok (.aload_n 0, 1) := by decide +kernel
theorem dX8_explore_158 : decode cX8_explore 158 = .ok (.getfield 30, 3) := by decide +kernel
theorem dX8_explore_161 : decode cX8_explore 161 = .ok (.iload_n 3, 1) := by decide +kernel
theorem dX8_explore_162 : decode cX8_explore 162 = .ok (.iaload, 1) := by decide +kernel
theorem dX8_explore_163 : decode cX8_explore 163 = .ok (.invokestatic 132, 3) := by decide +kernel
theorem dX8_explore_166 : decode cX8_explore 166 = .ok (.iastore, 1) := by decide +kernel
theorem dX8_explore_167 : decode cX8_explore 167 = .ok (.goto (-153), 3) := by decide +kernel
theorem dX8_explore_170 : decode cX8_explore 170 = .ok (.return_, 1) := by decide +kernel
abbrev MX8_explore : zT := (yX8_explore, cX8_explore, 5, (Option.none : Option Jvm.ClassFile.FieldType), [])
theorem plX8_explore : zplain MX8_explore 1 ∧ (zcodeW MX8_explore ∈ lw_all ∧ Cond.initialized MX8_explore.1.cls ∈ lw_all) := ⟨⟨by decide +kernel, by decide +kernel⟩, q1759, q126⟩
noncomputable def f_X8_explore_170 (σ : zM) : Option zO :=
  some (0, ((3, 0) : zV), σ)
theorem w_X8_explore_170 {g : zG} {lv : Nat} {out : zO} (σ : zM) {r : zO} (h : f_X8_explore_170  σ = some r) (hk : (fun o : zO => o = out) r) : Gj g MX8_explore (lv + 2) 170 [] [] σ out := by
  revert h
  unfold f_X8_explore_170
  intro h
  cases h
  have hk : (0, ((3, 0) : zV), σ) = out := hk
  subst hk
  exact gj_vret (pc := 170) dX8_explore_170 rfl
noncomputable def f_X8_explore_167 (x0 x2 : Int) (σ : zM) : Option ((Int × zM) ⊕ zO) :=
  some (.inl (x2, σ))
theorem w_X8_explore_167 {g : zG} {lv : Nat} {out : zO} (x0 x2 : Int) (σ : zM) {r : ((Int × zM) ⊕ zO)} (h : f_X8_explore_167 x0 x2 σ = some r) (hk : (zKL (fun s : Int × zM => Gj g MX8_explore (lv + 2) 14 [(0, zr x0), (2, zi s.1)] [] s.2 out) (fun o : zO => o = out)) r) : Gj g MX8_explore (lv + 2) 167 [(0, zr x0), (2, zi x2)] [] σ out := by
  revert h
  unfold f_X8_explore_167
  refine zst_ (gj_goto 14 (pc := 167) dX8_explore_167 (by decide)) ?_
  intro h
  cases h
  exact hk
noncomputable def f_X8_explore_129 (x0 x2 x3 : Int) (σ : zM) : Option ((Int × zM) ⊕ zO) :=
  zlet (zadd x2 (-1)) fun y1 =>
  if y1 < 0 then
    f_X8_explore_167 x0 y1 σ
  else
    (zgf σ 808 x0).bind fun v2 =>
    (zgf σ 811 x0).bind fun v3 =>
    (zga σ 101 v3 y1).bind fun v4 =>
    (zgf σ 808 x0).bind fun v5 =>
    (zgf σ 811 x0).bind fun v6 =>
    (zga σ 101 v6 y1).bind fun v7 =>
    (zga σ 101 v5 v7).bind fun v8 =>
    (zgf σ 808 x0).bind fun v9 =>
    (zga σ 101 v9 x3).bind fun v10 =>
    zlet (if v10 < v8 then v10 else v8) fun y11 =>
    (zpa σ 101 v2 v4 y11).bind fun σ12 =>
    f_X8_explore_167 x0 y1 σ12
theorem w_X8_explore_129 {g : zG} {lv : Nat} {out : zO} (x0 x2 x3 : Int) (σ : zM) {r : ((Int × zM) ⊕ zO)} (h : f_X8_explore_129 x0 x2 x3 σ = some r) (hk : (zKL (fun s : Int × zM => Gj g MX8_explore (lv + 2) 14 [(0, zr x0), (2, zi s.1)] [] s.2 out) (fun o : zO => o = out)) r) : Gj g MX8_explore (lv + 2) 129 [(0, zr x0), (2, zi x2), (3, zi x3)] [] σ out := by
  revert h
  unfold f_X8_explore_129
  refine gb_iinc (pc := 129) 1 (fun y1 => [(2, zi y1), (0, zr x0), (3, zi x3)]) dX8_explore_129 rfl (by decide) (fun _ => rfl) (fun y1 => ?_)
  refine zst_ (gj_iload_n 0 (pc := 132) dX8_explore_132 rfl) ?_
  refine gb_if (gj_if_lt 167 (pc := 133) dX8_explore_133 (by decide)) ?_ ?_
  · refine zst_ (gj_sub [1, 0] rfl) ?_
    exact fun h => w_X8_explore_167 x0 y1 σ h hk
  · refine zst_ (gj_aload_n 1 (pc := 136) dX8_explore_136 rfl) ?_
    refine gb_get (pc := 137) fl808 dX8_explore_137 q773 (Or.inl rfl) (fun v2 => ?_)
    refine zst_ (gj_aload_n 1 (pc := 140) dX8_explore_140 rfl) ?_
    refine gb_get (pc := 141) fl811 dX8_explore_141 q776 (Or.inl rfl) (fun v3 => ?_)
    refine zst_ (gj_iload_n 0 (pc := 144) dX8_explore_144 rfl) ?_
    refine gb_iald (pc := 145) dX8_explore_145 (fun v4 => ?_)
    refine zst_ (gj_aload_n 1 (pc := 146) dX8_explore_146 rfl) ?_
    refine gb_get (pc := 147) fl808 dX8_explore_147 q773 (Or.inl rfl) (fun v5 => ?_)
    refine zst_ (gj_aload_n 1 (pc := 150) dX8_explore_150 rfl) ?_
    refine gb_get (pc := 151) fl811 dX8_explore_151 q776 (Or.inl rfl) (fun v6 => ?_)
    refine zst_ (gj_iload_n 0 (pc := 154) dX8_explore_154 rfl) ?_
    refine gb_iald (pc := 155) dX8_explore_155 (fun v7 => ?_)
    refine gb_iald (pc := 156) dX8_explore_156 (fun v8 => ?_)
    refine zst_ (gj_aload_n 1 (pc := 157) dX8_explore_157 rfl) ?_
    refine gb_get (pc := 158) fl808 dX8_explore_158 q773 (Or.inl rfl) (fun v9 => ?_)
    refine zst_ (gj_iload_n 2 (pc := 161) dX8_explore_161 rfl) ?_
    refine gb_iald (pc := 162) dX8_explore_162 (fun v10 => ?_)
    refine zst_ (gj_mmin (pc := 163) dX8_explore_163 q1769 q477 q119 q478 (by omega) (Nat.le_of_ble_eq_true rfl)) ?_
    refine gb_let (fun y11 => ?_)
    refine gb_iast (pc := 166) dX8_explore_166 (fun σ12 => ?_)
    refine zst_ (gj_sub [1, 0] rfl) ?_
    exact fun h => w_X8_explore_167 x0 y1 σ12 h hk
noncomputable def f_X8_explore_68 (x0 x2 x3 x4 : Int) (σ : zM) : Option ((Int × zM) ⊕ zO) :=
  if x4 = (-1) then
    (zgf σ 808 x0).bind fun v1 =>
    (zga σ 101 v1 x3).bind fun v2 =>
    (zgf σ 807 x0).bind fun v3 =>
    (zga σ 101 v3 x3).bind fun v4 =>
    if v2 ≠ v4 then
      f_X8_explore_129 x0 x2 x3 σ
    else
      zgd (zis σ 9 x0) <|
      zcv (f_X8_finish x0 x3 σ) fun σ5 =>
      f_X8_explore_129 x0 x2 x3 σ5
  else
    (zgf σ 812 x0).bind fun v6 =>
    (zga σ 103 v6 x4).bind fun v7 =>
    if v7 = 0 then
      f_X8_explore_167 x0 x2 σ
    else
      (zgf σ 808 x0).bind fun v8 =>
      (zgf σ 808 x0).bind fun v9 =>
      (zga σ 101 v9 x3).bind fun v10 =>
      (zgf σ 807 x0).bind fun v11 =>
      (zga σ 101 v11 x4).bind fun v12 =>
      zlet (if v12 < v10 then v12 else v10) fun y13 =>
      (zpa σ 101 v8 x3 y13).bind fun σ14 =>
      f_X8_explore_167 x0 x2 σ14
theorem w_X8_explore_68 {g : zG} {lv : Nat} {out : zO} (x0 x2 x3 x4 : Int) (σ : zM) {r : ((Int × zM) ⊕ zO)} (h : f_X8_explore_68 x0 x2 x3 x4 σ = some r) (hk : (zKL (fun s : Int × zM => Gj g MX8_explore (lv + 2) 14 [(0, zr x0), (2, zi s.1)] [] s.2 out) (fun o : zO => o = out)) r) : Gj g MX8_explore (lv + 2) 68 [(0, zr x0), (2, zi x2), (3, zi x3), (4, zi x4)] [] σ out := by
  revert h
  unfold f_X8_explore_68
  refine zst_ (gj_iload 3 (pc := 68) dX8_explore_68 rfl) ?_
  refine zst_ (gj_iconst (pc := 70) dX8_explore_70 (by decide)) ?_
  refine gb_if (gj_icmp_eq 109 (pc := 71) dX8_explore_71 (by decide)) ?_ ?_
  · refine zst_ (gj_aload_n 0 (pc := 109) dX8_explore_109 rfl) ?_
    refine gb_get (pc := 110) fl808 dX8_explore_110 q773 (Or.inl rfl) (fun v1 => ?_)
    refine zst_ (gj_iload_n 2 (pc := 113) dX8_explore_113 rfl) ?_
    refine gb_iald (pc := 114) dX8_explore_114 (fun v2 => ?_)
    refine zst_ (gj_aload_n 0 (pc := 115) dX8_explore_115 rfl) ?_
    refine gb_get (pc := 116) fl807 dX8_explore_116 q772 (Or.inl rfl) (fun v3 => ?_)
    refine zst_ (gj_iload_n 2 (pc := 119) dX8_explore_119 rfl) ?_
    refine gb_iald (pc := 120) dX8_explore_120 (fun v4 => ?_)
    refine gb_if (gj_icmp_ne 129 (pc := 121) dX8_explore_121 (by decide)) ?_ ?_
    · refine zst_ (gj_sub [0, 1, 2] rfl) ?_
      exact fun h => w_X8_explore_129 x0 x2 x3 σ h hk
    · refine zst_ (gj_aload_n 0 (pc := 124) dX8_explore_124 rfl) ?_
      refine zst_ (gj_iload_n 2 (pc := 125) dX8_explore_125 rfl) ?_
      refine gb_gd (fun hb => ?_)
      refine gb_callV (pc := 126) (as := [zr x0, zi x3]) (rest := []) (zCl.of (zLk_V (M := MX8_explore) (ci := 8) (r := (RX8, TX8, 23)) plX8_finish.1 rfl rfl (zisE hb).1 (zisE hb).2 dX8_explore_126 q1770 q1772 qs35 q1773) plX8_finish (Nat.le_of_ble_eq_true rfl) (fun h => c_X8_finish h)) (fun σ5 => ?_)
      refine zst_ (gj_sub [0, 1, 2] rfl) ?_
      exact fun h => w_X8_explore_129 x0 x2 x3 σ5 h hk
  · refine zst_ (gj_aload_n 0 (pc := 74) dX8_explore_74 rfl) ?_
    refine gb_get (pc := 75) fl812 dX8_explore_75 q777 (Or.inl rfl) (fun v6 => ?_)
    refine zst_ (gj_iload 3 (pc := 78) dX8_explore_78 rfl) ?_
    refine gb_zald (pc := 80) dX8_explore_80 (fun v7 => ?_)
    refine gb_if (gj_if_eq 167 (pc := 81) dX8_explore_81 (by decide)) ?_ ?_
    · refine zst_ (gj_sub [0, 1] rfl) ?_
      exact fun h => w_X8_explore_167 x0 x2 σ h hk
    · refine zst_ (gj_aload_n 0 (pc := 84) dX8_explore_84 rfl) ?_
      refine gb_get (pc := 85) fl808 dX8_explore_85 q773 (Or.inl rfl) (fun v8 => ?_)
      refine zst_ (gj_iload_n 2 (pc := 88) dX8_explore_88 rfl) ?_
      refine zst_ (gj_aload_n 0 (pc := 89) dX8_explore_89 rfl) ?_
      refine gb_get (pc := 90) fl808 dX8_explore_90 q773 (Or.inl rfl) (fun v9 => ?_)
      refine zst_ (gj_iload_n 2 (pc := 93) dX8_explore_93 rfl) ?_
      refine gb_iald (pc := 94) dX8_explore_94 (fun v10 => ?_)
      refine zst_ (gj_aload_n 0 (pc := 95) dX8_explore_95 rfl) ?_
      refine gb_get (pc := 96) fl807 dX8_explore_96 q772 (Or.inl rfl) (fun v11 => ?_)
      refine zst_ (gj_iload 3 (pc := 99) dX8_explore_99 rfl) ?_
      refine gb_iald (pc := 101) dX8_explore_101 (fun v12 => ?_)
      refine zst_ (gj_mmin (pc := 102) dX8_explore_102 q1769 q477 q119 q478 (by omega) (Nat.le_of_ble_eq_true rfl)) ?_
      refine gb_let (fun y13 => ?_)
      refine gb_iast (pc := 105) dX8_explore_105 (fun σ14 => ?_)
      refine zst_ (gj_goto 167 (pc := 106) dX8_explore_106 (by decide)) ?_
      refine zst_ (gj_sub [0, 1] rfl) ?_
      exact fun h => w_X8_explore_167 x0 x2 σ14 h hk
noncomputable def f_X8_explore_14_b (x0 x2 : Int) (σ : zM) : Option ((Int × zM) ⊕ zO) :=
  if x2 < 0 then
    (f_X8_explore_170 σ).map (fun r => (.inr r))
  else
    (zgf σ 811 x0).bind fun v1 =>
    (zga σ 101 v1 x2).bind fun v2 =>
    zgd (zis σ 9 x0) <|
    zci (f_X8_following x0 v2 σ) fun v3 σ4 =>
    if v3 = (-1) then
      f_X8_explore_68 x0 x2 v2 v3 σ4
    else
      (zgf σ4 807 x0).bind fun v5 =>
      (zga σ4 101 v5 v3).bind fun v6 =>
      if v6 ≠ 0 then
        f_X8_explore_68 x0 x2 v2 v3 σ4
      else
        zlet (zadd x2 1) fun y7 =>
        (zgf σ4 811 x0).bind fun v8 =>
        (zpa σ4 101 v8 y7 v3).bind fun σ9 =>
        zgd (zis σ9 9 x0) <|
        zcv (f_X8_enter x0 v3 σ9) fun σ10 =>
        f_X8_explore_167 x0 y7 σ10
noncomputable def f_X8_explore_14 (x0 x2 : Int) (σ : zM) : Option zO :=
  zloop (fun s : Int × zM => f_X8_explore_14_b x0 s.1 s.2) (x2, σ)
theorem w_X8_explore_14_b {g : zG} {lv : Nat} {out : zO} (x0 x2 : Int) (σ : zM) {r : ((Int × zM) ⊕ zO)} (h : f_X8_explore_14_b x0 x2 σ = some r) (hk : (zKL (fun s : Int × zM => Gj g MX8_explore (lv + 2) 14 [(0, zr x0), (2, zi s.1)] [] s.2 out) (fun o : zO => o = out)) r) : Gj g MX8_explore (lv + 2) 14 [(0, zr x0), (2, zi x2)] [] σ out := by
  revert h
  unfold f_X8_explore_14_b
  refine zst_ (gj_iload_n 1 (pc := 14) dX8_explore_14 rfl) ?_
  refine gb_if (gj_if_lt 170 (pc := 15) dX8_explore_15 (by decide)) ?_ ?_
  · refine zst_ (gj_sub [] rfl) ?_
    intro h
    obtain ⟨r0, h0, rfl⟩ := zmE h
    exact w_X8_explore_170 σ h0 hk
  · refine zst_ (gj_aload_n 0 (pc := 18) dX8_explore_18 rfl) ?_
    refine gb_get (pc := 19) fl811 dX8_explore_19 q776 (Or.inl rfl) (fun v1 => ?_)
    refine zst_ (gj_iload_n 1 (pc := 22) dX8_explore_22 rfl) ?_
    refine gb_iald (pc := 23) dX8_explore_23 (fun v2 => ?_)
    refine zst_ (gj_istore_n (pc := 24) (ls' := [(3, zi v2), (0, zr x0), (2, zi x2)]) dX8_explore_24 (by decide) rfl) ?_
    refine zst_ (gj_aload_n 1 (pc := 25) dX8_explore_25 rfl) ?_
    refine zst_ (gj_iload_n 0 (pc := 26) dX8_explore_26 rfl) ?_
    refine gb_gd (fun hb => ?_)
    refine gb_callI (pc := 27) (as := [zr x0, zi v2]) (rest := []) (zCl.of (zLk_V (M := MX8_explore) (ci := 8) (r := (RX8, TX8, 23)) plX8_following.1 rfl rfl (zisE hb).1 (zisE hb).2 dX8_explore_27 q1764 q1766 qs34 q1767) plX8_following (Nat.le_of_ble_eq_true rfl) (fun h => c_X8_following h)) (fun v3 σ4 => ?_)
    refine zst_ (gj_istore (pc := 30) (ls' := [(4, zi v3), (3, zi v2), (0, zr x0), (2, zi x2)]) dX8_explore_30 (by decide) rfl) ?_
    refine zst_ (gj_iload 0 (pc := 32) dX8_explore_32 rfl) ?_
    refine zst_ (gj_iconst (pc := 34) dX8_explore_34 (by decide)) ?_
    refine gb_if (gj_icmp_eq 68 (pc := 35) dX8_explore_35 (by decide)) ?_ ?_
    · refine zst_ (gj_sub [2, 3, 1, 0] rfl) ?_
      exact fun h => w_X8_explore_68 x0 x2 v2 v3 σ4 h hk
    · refine zst_ (gj_aload_n 2 (pc := 38) dX8_explore_38 rfl) ?_
      refine gb_get (pc := 39) fl807 dX8_explore_39 q772 (Or.inl rfl) (fun v5 => ?_)
      refine zst_ (gj_iload 0 (pc := 42) dX8_explore_42 rfl) ?_
      refine gb_iald (pc := 44) dX8_explore_44 (fun v6 => ?_)
      refine gb_if (gj_if_ne 68 (pc := 45) dX8_explore_45 (by decide)) ?_ ?_
      · refine zst_ (gj_sub [2, 3, 1, 0] rfl) ?_
        exact fun h => w_X8_explore_68 x0 x2 v2 v3 σ4 h hk
      · refine gb_iinc (pc := 48) 3 (fun y7 => [(2, zi y7), (4, zi v3), (3, zi v2), (0, zr x0)]) dX8_explore_48 rfl (by decide) (fun _ => rfl) (fun y7 => ?_)
        refine zst_ (gj_aload_n 3 (pc := 51) dX8_explore_51 rfl) ?_
        refine gb_get (pc := 52) fl811 dX8_explore_52 q776 (Or.inl rfl) (fun v8 => ?_)
        refine zst_ (gj_iload_n 0 (pc := 55) dX8_explore_55 rfl) ?_
        refine zst_ (gj_iload 1 (pc := 56) dX8_explore_56 rfl) ?_
        refine gb_iast (pc := 58) dX8_explore_58 (fun σ9 => ?_)
        refine zst_ (gj_aload_n 3 (pc := 59) dX8_explore_59 rfl) ?_
        refine zst_ (gj_iload 1 (pc := 60) dX8_explore_60 rfl) ?_
        refine gb_gd (fun hb => ?_)
        refine gb_callV (pc := 62) (as := [zr x0, zi v3]) (rest := []) (zCl.of (zLk_V (M := MX8_explore) (ci := 8) (r := (RX8, TX8, 23)) plX8_enter.1 rfl rfl (zisE hb).1 (zisE hb).2 dX8_explore_62 q1760 q1762 qs33 q1763) plX8_enter (Nat.le_of_ble_eq_true rfl) (fun h => c_X8_enter h)) (fun σ10 => ?_)
        refine zst_ (gj_goto 167 (pc := 65) dX8_explore_65 (by decide)) ?_
        refine zst_ (gj_sub [3, 0] rfl) ?_
        exact fun h => w_X8_explore_167 x0 y7 σ10 h hk
theorem w_X8_explore_14 {g : zG} {lv : Nat} {out : zO} (x0 x2 : Int) (σ : zM) {r : zO} (h : f_X8_explore_14 x0 x2 σ = some r) (hk : (fun o : zO => o = out) r) : Gj g MX8_explore (lv + 2) 14 [(0, zr x0), (2, zi x2)] [] σ out :=
  gj_loop (P := (fun s : Int × zM => Gj g MX8_explore (lv + 2) 14 [(0, zr x0), (2, zi s.1)] [] s.2 out)) (fun s x hb hx => w_X8_explore_14_b x0 s.1 s.2 hb hx) h hk
noncomputable def f_X8_explore (x0 x1 : Int) (σ : zM) : Option zO :=
  (zgf σ 811 x0).bind fun v1 =>
  (zpa σ 101 v1 0 x1).bind fun σ2 =>
  zgd (zis σ2 9 x0) <|
  zcv (f_X8_enter x0 x1 σ2) fun σ3 =>
  f_X8_explore_14 x0 0 σ3
theorem c_X8_explore {g : zG} {lv : Nat} {x0 x1 : Int} {σ : zM} {out : zO} (h : f_X8_explore x0 x1 σ = some out) : Cj g (lv + 2) MX8_explore [zr x0, zi x1] σ out := by
  refine cj_go (ls := [(0, zr x0), (1, zi x1)]) (by decide) (Nat.le_of_ble_eq_true rfl) rfl (zgen h (fun r hk => ?_))
  unfold f_X8_explore
  refine zst_ (gj_iconst (pc := 0) dX8_explore_0 (by decide)) ?_
  refine zst_ (gj_istore_n (pc := 1) (ls' := [(2, zi 0), (0, zr x0), (1, zi x1)]) dX8_explore_1 (by decide) rfl) ?_
  refine zst_ (gj_aload_n 1 (pc := 2) dX8_explore_2 rfl) ?_
  refine gb_get (pc := 3) fl811 dX8_explore_3 q776 (Or.inl rfl) (fun v1 => ?_)
  refine zst_ (gj_iconst (pc := 6) dX8_explore_6 (by decide)) ?_
  refine zst_ (gj_iload_n 2 (pc := 7) dX8_explore_7 rfl) ?_
  refine gb_iast (pc := 8) dX8_explore_8 (fun σ2 => ?_)
  refine zst_ (gj_aload_n 1 (pc := 9) dX8_explore_9 rfl) ?_
  refine zst_ (gj_iload_n 2 (pc := 10) dX8_explore_10 rfl) ?_
  refine gb_gd (fun hb => ?_)
  refine gb_callV (pc := 11) (as := [zr x0, zi x1]) (rest := []) (zCl.of (zLk_V (M := MX8_explore) (ci := 8) (r := (RX8, TX8, 23)) plX8_enter.1 rfl rfl (zisE hb).1 (zisE hb).2 dX8_explore_11 q1760 q1762 qs33 q1763) plX8_enter (Nat.le_of_ble_eq_true rfl) (fun h => c_X8_enter h)) (fun σ3 => ?_)
  refine zst_ (gj_sub [1, 0] rfl) ?_
  exact fun h => w_X8_explore_14 x0 0 σ3 h hk
theorem q1755 : (Jvm.Cond.code ({ cls := "LassoFinder$Search", name := "mark", desc := "()V" } : Jvm.MethodName) prog_18_method_5_code (2 : Nat) (Option.none : Option Jvm.ClassFile.FieldType)) ∈ lw_all := lw_g (lw_at lw_m7 215 rfl) rfl
theorem q1756 : (Jvm.Cond.methodLink "LassoFinder$Search" (122 : Nat) ({ cls := "LassoFinder$Search", name := "explore", desc := "(I)V" } : Jvm.MethodName)) ∈ lw_all := lw_g (lw_at lw_m7 216 rfl) rfl
theorem q1758 : (Jvm.Cond.instanceMethod ({ cls := "LassoFinder$Search", name := "explore", desc := "(I)V" } : Jvm.MethodName)) ∈ lw_all := lw_g (lw_at lw_m7 218 rfl) rfl
abbrev cX8_mark : ByteArray := prog_18_method_5_code
def yX8_mark : MethodName := ⟨RX8, "mark", "()V"⟩
theorem dX8_mark_0 : decode cX8_mark 0 = .ok (.aload_n 0, 1) := by decide +kernel
theorem dX8_mark_1 : decode cX8_mark 1 = .ok (.iconst 0, 1) := by decide +kernel
theorem dX8_mark_2 : decode cX8_mark 2 = .ok (.putfield 116, 3) := by decide +kernel
theorem dX8_mark_5 : decode cX8_mark 5 = .ok (.aload_n 0, 1) := by decide +kernel
theorem dX8_mark_6 : decode cX8_mark 6 = .ok (.iconst 0, 1) := by decide +kernel
theorem dX8_mark_7 : decode cX8_mark 7 = .ok (.putfield 119, 3) := by decide +kernel
theorem dX8_mark_10 : decode cX8_mark 10 = .ok (.iconst 0, 1) := by decide +kernel
theorem dX8_mark_11 : decode cX8_mark 11 = .ok (.istore_n 1, 1) := by decide +kernel
theorem dX8_mark_12 : decode cX8_mark 12 = .ok (.iload_n 1, 1) := by decide +kernel
theorem dX8_mark_13 : decode cX8_mark 13 = .ok (.bipush 8, 2) := by decide +kernel
theorem dX8_mark_15 : decode cX8_mark 15 = .ok (.aload_n 0, 1) := by decide +kernel
theorem dX8_mark_16 : decode cX8_mark 16 = .ok (.getfield 64, 3) := by decide +kernel
theorem dX8_mark_19 : decode cX8_mark 19 = .ok (.getfield 77, 3) := by decide +kernel
theorem dX8_mark_22 : decode cX8_mark 22 = .ok (.imul, 1) := by decide +kernel
theorem dX8_mark_23 : decode cX8_mark 23 = .ok (.if_icmp .ge 39, 3) := by decide +kernel
theorem dX8_mark_26 : decode cX8_mark 26 = .ok (.aload_n 0, 1) := by decide +kernel
theorem dX8_mark_27 : decode cX8_mark 27 = .ok (.getfield 27, 3) := by decide +kernel
theorem dX8_mark_30 : decode cX8_mark 30 = .ok (.iload_n 1, 1) := by decide +kernel
theorem dX8_mark_31 : decode cX8_mark 31 = .ok (.iconst 0, 1) := by decide +kernel
theorem dX8_mark_32 : decode cX8_mark 32 = .ok (.iastore, 1) := by decide +kernel
theorem dX8_mark_33 : decode cX8_mark 33 = .ok (.aload_n 0, 1) := by decide +kernel
theorem dX8_mark_34 : decode cX8_mark 34 = .ok (.getfield 33, 3) := by decide +kernel
theorem dX8_mark_37 : decode cX8_mark 37 = .ok (.iload_n 1, 1) := by decide +kernel
theorem dX8_mark_38 : decode cX8_mark 38 = .ok (.iconst 0, 1) := by decide +kernel
theorem dX8_mark_39 : decode cX8_mark 39 = .ok (.iastore, 1) := by decide +kernel
theorem dX8_mark_40 : decode cX8_mark 40 = .ok (.aload_n 0, 1) := by decide +kernel
theorem dX8_mark_41 : decode cX8_mark 41 = .ok (.getfield 42, 3) := by decide +kernel
theorem dX8_mark_44 : decode cX8_mark 44 = .ok (.iload_n 1, 1) := by decide +kernel
theorem dX8_mark_45 : decode cX8_mark 45 = .ok (.iconst 0, 1) := by decide +kernel
theorem dX8_mark_46 : decode cX8_mark 46 = .ok (.bastore, 1) := by decide +kernel
theorem dX8_mark_47 : decode cX8_mark 47 = .ok (.aload_n 0, 1) := by decide +kernel
theorem dX8_mark_48 : decode cX8_mark 48 = .ok (.getfield 46, 3) := by decide +kernel
theorem dX8_mark_51 : decode cX8_mark 51 = .ok (.iload_n 1, 1) := by decide +kernel
theorem dX8_mark_52 : decode cX8_mark 52 = .ok (.sipush 30000, 3) := by decide +kernel
theorem dX8_mark_55 : decode cX8_mark 55 = .ok (.iastore, 1) := by decide +kernel
theorem dX8_mark_56 : decode cX8_mark 56 = .ok (.iinc 1 1, 3) := by decide +kernel
theorem dX8_mark_59 : decode cX8_mark 59 = .ok (.goto (-47), 3) := by decide +kernel
theorem dX8_mark_62 : decode cX8_mark 62 = .ok (.iconst 0, 1) := by decide +kernel
theorem dX8_mark_63 : decode cX8_mark 63 = .ok (.istore_n 1, 1) := by decide +kernel
theorem dX8_mark_64 : decode cX8_mark 64 = .ok (.iload_n 1, 1) := by decide +kernel
theorem dX8_mark_65 : decode cX8_mark 65 = .ok (.bipush 8, 2) := by decide +kernel
theorem dX8_mark_67 : decode cX8_mark 67 = .ok (.aload_n 0, 1) := by decide +kernel
theorem dX8_mark_68 : decode cX8_mark 68 = .ok (.getfield 64, 3) := by decide +kernel
theorem dX8_mark_71 : decode cX8_mark 71 = .ok (.getfield 77, 3) := by decide +kernel
theorem dX8_mark_74 : decode cX8_mark 74 = .ok (.imul, 1) := by decide +kernel
theorem dX8_mark_75 : decode cX8_mark 75 = .ok (.if_icmp .ge 34, 3) := by decide +kernel
theorem dX8_mark_78 : decode cX8_mark 78 = .ok (.iload_n 1, 1) := by decide +kernel
theorem dX8_mark_79 : decode cX8_mark 79 = .ok (.bipush 8, 2) := by decide +kernel
theorem dX8_mark_81 : decode cX8_mark 81 = .ok (.irem, 1) := by decide +kernel
theorem dX8_mark_82 : decode cX8_mark 82 = .ok (.aload_n 0, 1) := by decide +kernel
theorem dX8_mark_83 : decode cX8_mark 83 = .ok (.invokevirtual 93, 3) := by decide +kernel
theorem dX8_mark_86 : decode cX8_mark 86 = .ok (.if_icmp .ge 17, 3) := by decide +kernel
theorem dX8_mark_89 : decode cX8_mark 89 = .ok (.aload_n 0, 1) := by decide +kernel
theorem dX8_mark_90 : decode cX8_mark 90 = .ok (.getfield 27, 3) := by decide +kernel
theorem dX8_mark_93 : decode cX8_mark 93 = .ok (.iload_n 1, 1) := by decide +kernel
theorem dX8_mark_94 : decode cX8_mark 94 = .ok (.iaload, 1) := by decide +kernel
theorem dX8_mark_95 : decode cX8_mark 95 = .ok (.ifCond .ne 8, 3) := by decide +kernel
theorem dX8_mark_98 : decode cX8_mark 98 = .ok (.aload_n 0, 1) := by decide +kernel
theorem dX8_mark_99 : decode cX8_mark 99 = .ok (.iload_n 1, 1) := by decide +kernel
theorem dX8_mark_100 : decode cX8_mark 100 = .ok (.invokevirtual 122, 3) := by decide +kernel
theorem dX8_mark_103 : decode cX8_mark 103 = .ok (.iinc 1 1, 3) := by decide +kernel
theorem dX8_mark_106 : decode cX8_mark 106 = .ok (.goto (-42), 3) := by decide +kernel
theorem dX8_mark_109 : decode cX8_mark 109 = .ok (.return_, 1) := by decide +kernel
abbrev MX8_mark : zT := (yX8_mark, cX8_mark, 2, (Option.none : Option Jvm.ClassFile.FieldType), [])
theorem plX8_mark : zplain MX8_mark 0 ∧ (zcodeW MX8_mark ∈ lw_all ∧ Cond.initialized MX8_mark.1.cls ∈ lw_all) := ⟨⟨by decide +kernel, by decide +kernel⟩, q1755, q126⟩
noncomputable def f_X8_mark_109 (σ : zM) : Option zO :=
  some (0, ((3, 0) : zV), σ)
theorem w_X8_mark_109 {g : zG} {lv : Nat} {out : zO} (σ : zM) {r : zO} (h : f_X8_mark_109  σ = some r) (hk : (fun o : zO => o = out) r) : Gj g MX8_mark (lv + 3) 109 [] [] σ out := by
  revert h
  unfold f_X8_mark_109
  intro h
  cases h
  have hk : (0, ((3, 0) : zV), σ) = out := hk
  subst hk
  exact gj_vret (pc := 109) dX8_mark_109 rfl
noncomputable def f_X8_mark_103 (x0 x1 : Int) (σ : zM) : Option ((Int × zM) ⊕ zO) :=
  zlet (zadd x1 1) fun y1 =>
  some (.inl (y1, σ))
theorem w_X8_mark_103 {g : zG} {lv : Nat} {out : zO} (x0 x1 : Int) (σ : zM) {r : ((Int × zM) ⊕ zO)} (h : f_X8_mark_103 x0 x1 σ = some r) (hk : (zKL (fun s : Int × zM => Gj g MX8_mark (lv + 3) 64 [(0, zr x0), (1, zi s.1)] [] s.2 out) (fun o : zO => o = out)) r) : Gj g MX8_mark (lv + 3) 103 [(0, zr x0), (1, zi x1)] [] σ out := by
  revert h
  unfold f_X8_mark_103
  refine gb_iinc (pc := 103) 1 (fun y1 => [(1, zi y1), (0, zr x0)]) dX8_mark_103 rfl (by decide) (fun _ => rfl) (fun y1 => ?_)
  refine zst_ (gj_goto 64 (pc := 106) dX8_mark_106 (by decide)) ?_
  refine zst_ (gj_sub [1, 0] rfl) ?_
  intro h
  cases h
  exact hk
noncomputable def f_X8_mark_64_b (x0 x1 : Int) (σ : zM) : Option ((Int × zM) ⊕ zO) :=
  (zgf σ 800 x0).bind fun v1 =>
  (zgf σ 220 v1).bind fun v2 =>
  if (zmul 8 v2) ≤ x1 then
    (f_X8_mark_109 σ).map (fun r => (.inr r))
  else
    zgd (zis σ 9 x0) <|
    zci (f_X8_kinds x0 σ) fun v3 σ4 =>
    if v3 ≤ (zrem x1 8) then
      f_X8_mark_103 x0 x1 σ4
    else
      (zgf σ4 807 x0).bind fun v5 =>
      (zga σ4 101 v5 x1).bind fun v6 =>
      if v6 ≠ 0 then
        f_X8_mark_103 x0 x1 σ4
      else
        zgd (zis σ4 9 x0) <|
        zcv (f_X8_explore x0 x1 σ4) fun σ7 =>
        f_X8_mark_103 x0 x1 σ7
noncomputable def f_X8_mark_64 (x0 x1 : Int) (σ : zM) : Option zO :=
  zloop (fun s : Int × zM => f_X8_mark_64_b x0 s.1 s.2) (x1, σ)
theorem w_X8_mark_64_b {g : zG} {lv : Nat} {out : zO} (x0 x1 : Int) (σ : zM) {r : ((Int × zM) ⊕ zO)} (h : f_X8_mark_64_b x0 x1 σ = some r) (hk : (zKL (fun s : Int × zM => Gj g MX8_mark (lv + 3) 64 [(0, zr x0), (1, zi s.1)] [] s.2 out) (fun o : zO => o = out)) r) : Gj g MX8_mark (lv + 3) 64 [(0, zr x0), (1, zi x1)] [] σ out := by
  revert h
  unfold f_X8_mark_64_b
  refine zst_ (gj_iload_n 1 (pc := 64) dX8_mark_64 rfl) ?_
  refine zst_ (gj_bipush (pc := 65) dX8_mark_65 ⟨rfl, by decide⟩) ?_
  refine zst_ (gj_aload_n 0 (pc := 67) dX8_mark_67 rfl) ?_
  refine gb_get (pc := 68) fl800 dX8_mark_68 q765 (Or.inl rfl) (fun v1 => ?_)
  refine gb_getNe (pc := 71) fl220 dX8_mark_71 q313 (Or.inl rfl) (fun v2 => ?_)
  refine zst_ (gj_imul (pc := 74) dX8_mark_74) ?_
  refine gb_if (gj_icmp_ge 109 (pc := 75) dX8_mark_75 (by decide)) ?_ ?_
  · refine zst_ (gj_sub [] rfl) ?_
    intro h
    obtain ⟨r0, h0, rfl⟩ := zmE h
    exact w_X8_mark_109 σ h0 hk
  · refine zst_ (gj_iload_n 1 (pc := 78) dX8_mark_78 rfl) ?_
    refine zst_ (gj_bipush (pc := 79) dX8_mark_79 ⟨rfl, by decide⟩) ?_
    refine zst_ (gj_irem (pc := 81) dX8_mark_81 (by decide)) ?_
    refine zst_ (gj_aload_n 0 (pc := 82) dX8_mark_82 rfl) ?_
    refine gb_gd (fun hb => ?_)
    refine gb_callI (pc := 83) (as := [zr x0]) (rest := [zi (zrem x1 8)]) (zCl.of (zLk_V (M := MX8_mark) (ci := 8) (r := (RX8, TX8, 23)) plX8_kinds.1 rfl rfl (zisE hb).1 (zisE hb).2 dX8_mark_83 q1699 q1701 qs30 q1702) plX8_kinds (Nat.le_of_ble_eq_true rfl) (fun h => c_X8_kinds h)) (fun v3 σ4 => ?_)
    refine gb_if (gj_icmp_ge 103 (pc := 86) dX8_mark_86 (by decide)) ?_ ?_
    · exact fun h => w_X8_mark_103 x0 x1 σ4 h hk
    · refine zst_ (gj_aload_n 0 (pc := 89) dX8_mark_89 rfl) ?_
      refine gb_get (pc := 90) fl807 dX8_mark_90 q772 (Or.inl rfl) (fun v5 => ?_)
      refine zst_ (gj_iload_n 1 (pc := 93) dX8_mark_93 rfl) ?_
      refine gb_iald (pc := 94) dX8_mark_94 (fun v6 => ?_)
      refine gb_if (gj_if_ne 103 (pc := 95) dX8_mark_95 (by decide)) ?_ ?_
      · exact fun h => w_X8_mark_103 x0 x1 σ4 h hk
      · refine zst_ (gj_aload_n 0 (pc := 98) dX8_mark_98 rfl) ?_
        refine zst_ (gj_iload_n 1 (pc := 99) dX8_mark_99 rfl) ?_
        refine gb_gd (fun hb => ?_)
        refine gb_callV (pc := 100) (as := [zr x0, zi x1]) (rest := []) (zCl.of (zLk_V (M := MX8_mark) (ci := 8) (r := (RX8, TX8, 23)) plX8_explore.1 rfl rfl (zisE hb).1 (zisE hb).2 dX8_mark_100 q1756 q1758 qs32 q1759) plX8_explore (Nat.le_of_ble_eq_true rfl) (fun h => c_X8_explore h)) (fun σ7 => ?_)
        exact fun h => w_X8_mark_103 x0 x1 σ7 h hk
theorem w_X8_mark_64 {g : zG} {lv : Nat} {out : zO} (x0 x1 : Int) (σ : zM) {r : zO} (h : f_X8_mark_64 x0 x1 σ = some r) (hk : (fun o : zO => o = out) r) : Gj g MX8_mark (lv + 3) 64 [(0, zr x0), (1, zi x1)] [] σ out :=
  gj_loop (P := (fun s : Int × zM => Gj g MX8_mark (lv + 3) 64 [(0, zr x0), (1, zi s.1)] [] s.2 out)) (fun s x hb hx => w_X8_mark_64_b x0 s.1 s.2 hb hx) h hk
noncomputable def f_X8_mark_62 (x0 : Int) (σ : zM) : Option zO :=
  f_X8_mark_64 x0 0 σ
theorem w_X8_mark_62 {g : zG} {lv : Nat} {out : zO} (x0 : Int) (σ : zM) {r : zO} (h : f_X8_mark_62 x0 σ = some r) (hk : (fun o : zO => o = out) r) : Gj g MX8_mark (lv + 3) 62 [(0, zr x0)] [] σ out := by
  revert h
  unfold f_X8_mark_62
  refine zst_ (gj_iconst (pc := 62) dX8_mark_62 (by decide)) ?_
  refine zst_ (gj_istore_n (pc := 63) (ls' := [(1, zi 0), (0, zr x0)]) dX8_mark_63 (by decide) rfl) ?_
  refine zst_ (gj_sub [1, 0] rfl) ?_
  exact fun h => w_X8_mark_64 x0 0 σ h hk
noncomputable def f_X8_mark_12_b (x0 x1 : Int) (σ : zM) : Option ((Int × zM) ⊕ zO) :=
  (zgf σ 800 x0).bind fun v1 =>
  (zgf σ 220 v1).bind fun v2 =>
  if (zmul 8 v2) ≤ x1 then
    (f_X8_mark_62 x0 σ).map (fun r => (.inr r))
  else
    (zgf σ 807 x0).bind fun v3 =>
    (zpa σ 101 v3 x1 0).bind fun σ4 =>
    (zgf σ4 809 x0).bind fun v5 =>
    (zpa σ4 101 v5 x1 0).bind fun σ6 =>
    (zgf σ6 812 x0).bind fun v7 =>
    zgd (z01 0) <|
    (zpa σ6 103 v7 x1 0).bind fun σ8 =>
    (zgf σ8 815 x0).bind fun v9 =>
    (zpa σ8 101 v9 x1 30000).bind fun σ10 =>
    zlet (zadd x1 1) fun y11 =>
    some (.inl (y11, σ10))
noncomputable def f_X8_mark_12 (x0 x1 : Int) (σ : zM) : Option zO :=
  zloop (fun s : Int × zM => f_X8_mark_12_b x0 s.1 s.2) (x1, σ)
theorem w_X8_mark_12_b {g : zG} {lv : Nat} {out : zO} (x0 x1 : Int) (σ : zM) {r : ((Int × zM) ⊕ zO)} (h : f_X8_mark_12_b x0 x1 σ = some r) (hk : (zKL (fun s : Int × zM => Gj g MX8_mark (lv + 3) 12 [(0, zr x0), (1, zi s.1)] [] s.2 out) (fun o : zO => o = out)) r) : Gj g MX8_mark (lv + 3) 12 [(0, zr x0), (1, zi x1)] [] σ out := by
  revert h
  unfold f_X8_mark_12_b
  refine zst_ (gj_iload_n 1 (pc := 12) dX8_mark_12 rfl) ?_
  refine zst_ (gj_bipush (pc := 13) dX8_mark_13 ⟨rfl, by decide⟩) ?_
  refine zst_ (gj_aload_n 0 (pc := 15) dX8_mark_15 rfl) ?_
  refine gb_get (pc := 16) fl800 dX8_mark_16 q765 (Or.inl rfl) (fun v1 => ?_)
  refine gb_getNe (pc := 19) fl220 dX8_mark_19 q313 (Or.inl rfl) (fun v2 => ?_)
  refine zst_ (gj_imul (pc := 22) dX8_mark_22) ?_
  refine gb_if (gj_icmp_ge 62 (pc := 23) dX8_mark_23 (by decide)) ?_ ?_
  · refine zst_ (gj_sub [0] rfl) ?_
    intro h
    obtain ⟨r0, h0, rfl⟩ := zmE h
    exact w_X8_mark_62 x0 σ h0 hk
  · refine zst_ (gj_aload_n 0 (pc := 26) dX8_mark_26 rfl) ?_
    refine gb_get (pc := 27) fl807 dX8_mark_27 q772 (Or.inl rfl) (fun v3 => ?_)
    refine zst_ (gj_iload_n 1 (pc := 30) dX8_mark_30 rfl) ?_
    refine zst_ (gj_iconst (pc := 31) dX8_mark_31 (by decide)) ?_
    refine gb_iast (pc := 32) dX8_mark_32 (fun σ4 => ?_)
    refine zst_ (gj_aload_n 0 (pc := 33) dX8_mark_33 rfl) ?_
    refine gb_get (pc := 34) fl809 dX8_mark_34 q774 (Or.inl rfl) (fun v5 => ?_)
    refine zst_ (gj_iload_n 1 (pc := 37) dX8_mark_37 rfl) ?_
    refine zst_ (gj_iconst (pc := 38) dX8_mark_38 (by decide)) ?_
    refine gb_iast (pc := 39) dX8_mark_39 (fun σ6 => ?_)
    refine zst_ (gj_aload_n 0 (pc := 40) dX8_mark_40 rfl) ?_
    refine gb_get (pc := 41) fl812 dX8_mark_41 q777 (Or.inl rfl) (fun v7 => ?_)
    refine zst_ (gj_iload_n 1 (pc := 44) dX8_mark_44 rfl) ?_
    refine zst_ (gj_iconst (pc := 45) dX8_mark_45 (by decide)) ?_
    refine gb_gd (fun hb => ?_)
    refine gb_zast (pc := 46) (z01E hb) dX8_mark_46 (fun σ8 => ?_)
    refine zst_ (gj_aload_n 0 (pc := 47) dX8_mark_47 rfl) ?_
    refine gb_get (pc := 48) fl815 dX8_mark_48 q780 (Or.inl rfl) (fun v9 => ?_)
    refine zst_ (gj_iload_n 1 (pc := 51) dX8_mark_51 rfl) ?_
    refine zst_ (gj_sipush (pc := 52) dX8_mark_52 ⟨rfl, by decide⟩) ?_
    refine gb_iast (pc := 55) dX8_mark_55 (fun σ10 => ?_)
    refine gb_iinc (pc := 56) 1 (fun y11 => [(1, zi y11), (0, zr x0)]) dX8_mark_56 rfl (by decide) (fun _ => rfl) (fun y11 => ?_)
    refine zst_ (gj_goto 12 (pc := 59) dX8_mark_59 (by decide)) ?_
    refine zst_ (gj_sub [1, 0] rfl) ?_
    intro h
    cases h
    exact hk
theorem w_X8_mark_12 {g : zG} {lv : Nat} {out : zO} (x0 x1 : Int) (σ : zM) {r : zO} (h : f_X8_mark_12 x0 x1 σ = some r) (hk : (fun o : zO => o = out) r) : Gj g MX8_mark (lv + 3) 12 [(0, zr x0), (1, zi x1)] [] σ out :=
  gj_loop (P := (fun s : Int × zM => Gj g MX8_mark (lv + 3) 12 [(0, zr x0), (1, zi s.1)] [] s.2 out)) (fun s x hb hx => w_X8_mark_12_b x0 s.1 s.2 hb hx) h hk
noncomputable def f_X8_mark (x0 : Int) (σ : zM) : Option zO :=
  (zpf σ 813 x0 0).bind fun σ1 =>
  (zpf σ1 814 x0 0).bind fun σ2 =>
  f_X8_mark_12 x0 0 σ2
theorem c_X8_mark {g : zG} {lv : Nat} {x0 : Int} {σ : zM} {out : zO} (h : f_X8_mark x0 σ = some out) : Cj g (lv + 3) MX8_mark [zr x0] σ out := by
  refine cj_go (ls := [(0, zr x0)]) (by decide) (Nat.le_of_ble_eq_true rfl) rfl (zgen h (fun r hk => ?_))
  unfold f_X8_mark
  refine zst_ (gj_aload_n 0 (pc := 0) dX8_mark_0 rfl) ?_
  refine zst_ (gj_iconst (pc := 1) dX8_mark_1 (by decide)) ?_
  refine gb_put (pc := 2) fl813 fr813 dX8_mark_2 q778 (Or.inl rfl) (fun σ1 => ?_)
  refine zst_ (gj_aload_n 0 (pc := 5) dX8_mark_5 rfl) ?_
  refine zst_ (gj_iconst (pc := 6) dX8_mark_6 (by decide)) ?_
  refine gb_put (pc := 7) fl814 fr814 dX8_mark_7 q779 (Or.inl rfl) (fun σ2 => ?_)
  refine zst_ (gj_iconst (pc := 10) dX8_mark_10 (by decide)) ?_
  refine zst_ (gj_istore_n (pc := 11) (ls' := [(1, zi 0), (0, zr x0)]) dX8_mark_11 (by decide) rfl) ?_
  refine zst_ (gj_sub [1, 0] rfl) ?_
  exact fun h => w_X8_mark_12 x0 0 σ2 h hk
theorem q304 : (Jvm.Cond.fieldLinkNest "LassoFinder$Search" (144 : Nat) "LassoFinder$Model" "from" "[I" "LassoFinder") ∈ lw_tbl := lw_at lw_m1 204 rfl
theorem q782 : (Jvm.Cond.fieldLink "LassoFinder$Search" (52 : Nat) "LassoFinder$Search" "queue" "[I") ∈ lw_all := lw_g (lw_at lw_m3 202 rfl) rfl
theorem q1781 : (Jvm.Cond.code ({ cls := "LassoFinder$Search", name := "spread", desc := "()V" } : Jvm.MethodName) prog_18_method_10_code (6 : Nat) (Option.none : Option Jvm.ClassFile.FieldType)) ∈ lw_all := lw_g (lw_at lw_m8 1 rfl) rfl
theorem fl817 : zfl 817 2 "LassoFinder$Search" "queue" "[I" true := ⟨rfl, rfl, rfl⟩
theorem fr817 {g : zG} {v : Int} : zok g (2, v) → zokt g (zft 817) v := fun h => h
abbrev cX8_spread : ByteArray := prog_18_method_10_code
def yX8_spread : MethodName := ⟨RX8, "spread", "()V"⟩
theorem dX8_spread_0 : decode cX8_spread 0 = .ok (.iconst 0, 1) := by decide +kernel
theorem dX8_spread_1 : decode cX8_spread 1 = .ok (.istore_n 1, 1) := by decide +kernel
theorem dX8_spread_2 : decode cX8_spread 2 = .ok (.iconst 0, 1) := by decide +kernel
theorem dX8_spread_3 : decode cX8_spread 3 = .ok (.istore_n 2, 1) := by decide +kernel
theorem dX8_spread_4 : decode cX8_spread 4 = .ok (.iconst 0, 1) := by decide +kernel
theorem dX8_spread_5 : decode cX8_spread 5 = .ok (.istore_n 3, 1) := by decide +kernel
theorem dX8_spread_6 : decode cX8_spread 6 = .ok (.iload_n 3, 1) := by decide +kernel
theorem dX8_spread_7 : decode cX8_spread 7 = .ok (.bipush 8, 2) := by decide +kernel
theorem dX8_spread_9 : decode cX8_spread 9 = .ok (.aload_n 0, 1) := by decide +kernel
theorem dX8_spread_10 : decode cX8_spread 10 = .ok (.getfield 64, 3) := by decide +kernel
theorem dX8_spread_13 : decode cX8_spread 13 = .ok (.getfield 77, 3) := by decide +kernel
theorem dX8_spread_16 : decode cX8_spread 16 = .ok (.imul, 1) := by decide +kernel
theorem dX8_spread_17 : decode cX8_spread 17 = .ok (.if_icmp .ge 31, 3) := by decide +kernel
theorem dX8_spread_20 : decode cX8_spread 20 = .ok (.aload_n 0, 1) := by decide +kernel
theorem dX8_spread_21 : decode cX8_spread 21 = .ok (.getfield 46, 3) := by decide +kernel
theorem dX8_spread_24 : decode cX8_spread 24 = .ok (.iload_n 3, 1) := by decide +kernel
theorem dX8_spread_25 : decode cX8_spread 25 = .ok (.iaload, 1) := by decide +kernel
theorem dX8_spread_26 : decode cX8_spread 26 = .ok (.ifCond .eq 6, 3) := by decide +kernel
theorem dX8_spread_29 : decode cX8_spread 29 = .ok (.goto 13, 3) := by decide +kernel
theorem dX8_spread_32 : decode cX8_spread 32 = .ok (.aload_n 0, 1) := by decide +kernel
theorem dX8_spread_33 : decode cX8_spread 33 = .ok (.getfield 52, 3) := by decide +kernel
theorem dX8_spread_36 : decode cX8_spread 36 = .ok (.iload_n 2, 1) := by decide +kernel
theorem dX8_spread_37 : decode cX8_spread 37 = .ok (.iload_n 3, 1) := by decide +kernel
theorem dX8_spread_38 : decode cX8_spread 38 = .ok (.iastore, 1) := by decide +kernel
theorem dX8_spread_39 : decode cX8_spread 39 = .ok (.iinc 2 1, 3) := by decide +kernel
theorem dX8_spread_42 : decode cX8_spread 42 = .ok (.iinc 3 1, 3) := by decide +kernel
theorem dX8_spread_45 : decode cX8_spread 45 = .ok (.goto (-39), 3) := by decide +kernel
theorem dX8_spread_48 : decode cX8_spread 48 = .ok (.iload_n 1, 1) := by decide +kernel
theorem dX8_spread_49 : decode cX8_spread 49 = .ok (.iload_n 2, 1) := by decide +kernel
theorem dX8_spread_50 : decode cX8_spread 50 = .ok (.if_icmp .ge 122, 3) := by decide +kernel
theorem dX8_spread_53 : decode cX8_spread 53 = .ok (.aload_n 0, 1) := by decide +kernel
theorem dX8_spread_54 : decode cX8_spread 54 = .ok (.getfield 52, 3) := by decide +kernel
theorem dX8_spread_57 : decode cX8_spread 57 = .ok (.iload_n 1, 1) := by decide +kernel
theorem dX8_spread_58 : decode cX8_spread 58 = .ok (.iaload, 1) := by decide +kernel
theorem dX8_spread_59 : decode cX8_spread 59 = .ok (.istore_n 3, 1) := by decide +kernel
theorem dX8_spread_60 : decode cX8_spread 60 = .ok (.iinc 1 1, 3) := by decide +kernel
theorem dX8_spread_63 : decode cX8_spread 63 = .ok (.aload_n 0, 1) := by decide +kernel
theorem dX8_spread_64 : decode cX8_spread 64 = .ok (.getfield 21, 3) := by decide +kernel
theorem dX8_spread_67 : decode cX8_spread 67 = .ok (.iload_n 3, 1) := by decide +kernel
theorem dX8_spread_68 : decode cX8_spread 68 = .ok (.bipush 8, 2) := by decide +kernel
theorem dX8_spread_70 : decode cX8_spread 70 = .ok (.idiv, 1) := by decide +kernel
theorem dX8_spread_71 : decode cX8_spread 71 = .ok (.iaload, 1) := by decide +kernel
theorem dX8_spread_72 : decode cX8_spread 72 = .ok (.istore 4, 2) := by decide +kernel
theorem dX8_spread_74 : decode cX8_spread 74 = .ok (.iload 4, 2) := by decide +kernel
theorem dX8_spread_76 : decode cX8_spread 76 = .ok (.ifCond .le 93, 3) := by decide +kernel
theorem dX8_spread_79 : decode cX8_spread 79 = .ok (.bipush 8, 2) := by decide +kernel
theorem dX8_spread_81 : decode cX8_spread 81 = .ok (.aload_n 0, 1) := by decide +kernel
theorem dX8_spread_82 : decode cX8_spread 82 = .ok (.getfield 64, 3) := by decide +kernel
theorem dX8_spread_85 : decode cX8_spread 85 = .ok (.getfield 144, 3) := by decide +kernel
theorem dX8_spread_88 : decode cX8_spread 88 = .ok (.iload 4, 2) := by decide +kernel
theorem dX8_spread_90 : decode cX8_spread 90 = .ok (.iconst 1, 1) := by decide +kernel
theorem dX8_spread_91 : decode cX8_spread 91 = .ok (.isub, 1) := by decide +kernel
theorem dX8_spread_92 : decode cX8_spread 92 = .ok (.iaload, 1) := by decide +kernel
theorem dX8_spread_93 : decode cX8_spread 93 = .ok (.imul, 1) := by decide +kernel
theorem dX8_spread_94 : decode cX8_spread 94 = .ok (.istore 5, 2) := by decide +kernel
theorem dX8_spread_96 : decode cX8_spread 96 = .ok (.iload 5, 2) := by decide +kernel
theorem dX8_spread_98 : decode cX8_spread 98 = .ok (.aload_n 0, 1) := by decide +kernel
theorem dX8_spread_99 : decode cX8_spread 99 = .ok (.getfield 15, 3) := by decide +kernel
theorem dX8_spread_102 : decode cX8_spread 102 = .ok (.iload 5, 2) := by decide +kernel
theorem dX8_spread_104 : decode cX8_spread 104 = .ok (.iload_n 3, 1) := by decide +kernel
theorem dX8_spread_105 : decode cX8_spread 105 = .ok (.bipush 8, 2) := by decide +kernel
theorem dX8_spread_107 : decode cX8_spread 107 = .ok (.irem, 1) := by decide +kernel
theorem dX8_spread_108 : decode cX8_spread 108 = .ok (.iadd, 1) := by decide +kernel
theorem dX8_spread_109 : decode cX8_spread 109 = .ok (.iaload, 1) := by decide +kernel
theorem dX8_spread_110 : decode cX8_spread 110 = .ok (.iadd, 1) := by decide +kernel
theorem dX8_spread_111 : decode cX8_spread 111 = .ok (.istore 5, 2) := by decide +kernel
theorem dX8_spread_113 : decode cX8_spread 113 = .ok (.aload_n 0, 1) := by decide +kernel
theorem dX8_spread_114 : decode cX8_spread 114 = .ok (.getfield 46, 3) := by decide +kernel
theorem dX8_spread_117 : decode cX8_spread 117 = .ok (.iload 5, 2) := by decide +kernel
theorem dX8_spread_119 : decode cX8_spread 119 = .ok (.iaload, 1) := by decide +kernel
theorem dX8_spread_120 : decode cX8_spread 120 = .ok (.sipush 30000, 3) := by decide +kernel
theorem dX8_spread_123 : decode cX8_spread 123 = .ok (.if_icmp .eq 6, 3) := by decide +kernel
theorem dX8_spread_126 : decode cX8_spread 126 = .ok (.goto 29, 3) := by decide +kernel
theorem dX8_spread_129 : decode cX8_spread 129 = .ok (.aload_n 0, 1) := by decide +kernel
theorem dX8_spread_130 : decode cX8_spread 130 = .ok (.getfield 46, 3) := by decide +kernel
theorem dX8_spread_133 : decode cX8_spread 133 = .ok (.iload 5, 2) := by decide +kernel
theorem dX8_spread_135 : decode cX8_spread 135 = .ok (.aload_n 0, 1) := by decide +kernel
theorem dX8_spread_136 : decode cX8_spread 136 = .ok (.getfield 46, 3) := by decide +kernel
theorem dX8_spread_139 : decode cX8_spread 139 = .ok (.iload_n 3, 1) := by decide +kernel
theorem dX8_spread_140 : decode cX8_spread 140 = .ok (.iaload, 1) := by decide +kernel
theorem dX8_spread_141 : decode cX8_spread 141 = .ok (.iconst 1, 1) := by decide +kernel
theorem dX8_spread_142 : decode cX8_spread 142 = .ok (.iadd, 1) := by decide +kernel
theorem dX8_spread_143 : decode cX8_spread 143 = .ok (.iastore, 1) := by decide +kernel
theorem dX8_spread_144 : decode cX8_spread 144 = .ok (.aload_n 0, 1) := by decide +kernel
theorem dX8_spread_145 : decode cX8_spread 145 = .ok (.getfield 52, 3) := by decide +kernel
theorem dX8_spread_148 : decode cX8_spread 148 = .ok (.iload_n 2, 1) := by decide +kernel
theorem dX8_spread_149 : decode cX8_spread 149 = .ok (.iload 5, 2) := by decide +kernel
theorem dX8_spread_151 : decode cX8_spread 151 = .ok (.iastore, 1) := by decide +kernel
theorem dX8_spread_152 : decode cX8_spread 152 = .ok (.iinc 2 1, 3) := by decide +kernel
theorem dX8_spread_155 : decode cX8_spread 155 = .ok (.aload_n 0, 1) := by decide +kernel
theorem dX8_spread_156 : decode cX8_spread 156 = .ok (.getfield 24, 3) := by decide +kernel
theorem dX8_spread_159 : decode cX8_spread 159 = .ok (.iload 4, 2) := by decide +kernel
theorem dX8_spread_161 : decode cX8_spread 161 = .ok (.iconst 1, 1) := by decide +kernel
theorem dX8_spread_162 : decode cX8_spread 162 = .ok (.isub, 1) := by decide +kernel
theorem dX8_spread_163 : decode cX8_spread 163 = .ok (.iaload, 1) := by decide +kernel
theorem dX8_spread_164 : decode cX8_spread 164 = .ok (.istore 4, 2) := by decide +kernel
theorem dX8_spread_166 : decode cX8_spread 166 = .ok (.goto (-92), 3) := by decide +kernel
theorem dX8_spread_169 : decode cX8_spread 169 = .ok (.goto (-121), 3) := by decide +kernel
theorem dX8_spread_172 : decode cX8_spread 172 = .ok (.return_, 1) := by decide +kernel
abbrev MX8_spread : zT := (yX8_spread, cX8_spread, 6, (Option.none : Option Jvm.ClassFile.FieldType), [])
theorem plX8_spread : zplain MX8_spread 0 ∧ (zcodeW MX8_spread ∈ lw_all ∧ Cond.initialized MX8_spread.1.cls ∈ lw_all) := ⟨⟨by decide +kernel, by decide +kernel⟩, q1781, q126⟩
noncomputable def f_X8_spread_172 (σ : zM) : Option zO :=
  some (0, ((3, 0) : zV), σ)
theorem w_X8_spread_172 {g : zG} {lv : Nat} {out : zO} (σ : zM) {r : zO} (h : f_X8_spread_172  σ = some r) (hk : (fun o : zO => o = out) r) : Gj g MX8_spread (lv) 172 [] [] σ out := by
  revert h
  unfold f_X8_spread_172
  intro h
  cases h
  have hk : (0, ((3, 0) : zV), σ) = out := hk
  subst hk
  exact gj_vret (pc := 172) dX8_spread_172 rfl
noncomputable def f_X8_spread_169 (x0 x1 x2 : Int) (σ : zM) : Option ((Int × Int × zM) ⊕ zO) :=
  some (.inl (x1, x2, σ))
theorem w_X8_spread_169 {g : zG} {lv : Nat} {out : zO} (x0 x1 x2 : Int) (σ : zM) {r : ((Int × Int × zM) ⊕ zO)} (h : f_X8_spread_169 x0 x1 x2 σ = some r) (hk : (zKL (fun s : Int × Int × zM => Gj g MX8_spread (lv) 48 [(0, zr x0), (1, zi s.1), (2, zi s.2.1)] [] s.2.2 out) (fun o : zO => o = out)) r) : Gj g MX8_spread (lv) 169 [(0, zr x0), (1, zi x1), (2, zi x2)] [] σ out := by
  revert h
  unfold f_X8_spread_169
  refine zst_ (gj_goto 48 (pc := 169) dX8_spread_169 (by decide)) ?_
  intro h
  cases h
  exact hk
noncomputable def f_X8_spread_155 (x0 x1 x2 x3 x4 : Int) (σ : zM) : Option ((Int × Int × zM) ⊕ ((Int × Int × zM) ⊕ zO)) :=
  (zgf σ 806 x0).bind fun v1 =>
  (zga σ 101 v1 (zsub x4 1)).bind fun v2 =>
  some (.inl (x2, v2, σ))
theorem w_X8_spread_155 {g : zG} {lv : Nat} {out : zO} (x0 x1 x2 x3 x4 : Int) (σ : zM) {r : ((Int × Int × zM) ⊕ ((Int × Int × zM) ⊕ zO))} (h : f_X8_spread_155 x0 x1 x2 x3 x4 σ = some r) (hk : (zKL (fun s : Int × Int × zM => Gj g MX8_spread (lv) 74 [(0, zr x0), (1, zi x1), (2, zi s.1), (3, zi x3), (4, zi s.2.1)] [] s.2.2 out) (zKL (fun s : Int × Int × zM => Gj g MX8_spread (lv) 48 [(0, zr x0), (1, zi s.1), (2, zi s.2.1)] [] s.2.2 out) (fun o : zO => o = out))) r) : Gj g MX8_spread (lv) 155 [(0, zr x0), (1, zi x1), (2, zi x2), (3, zi x3), (4, zi x4)] [] σ out := by
  revert h
  unfold f_X8_spread_155
  refine zst_ (gj_aload_n 0 (pc := 155) dX8_spread_155 rfl) ?_
  refine gb_get (pc := 156) fl806 dX8_spread_156 q771 (Or.inl rfl) (fun v1 => ?_)
  refine zst_ (gj_iload 4 (pc := 159) dX8_spread_159 rfl) ?_
  refine zst_ (gj_iconst (pc := 161) dX8_spread_161 (by decide)) ?_
  refine zst_ (gj_isub (pc := 162) dX8_spread_162) ?_
  refine gb_iald (pc := 163) dX8_spread_163 (fun v2 => ?_)
  refine zst_ (gj_istore (pc := 164) (ls' := [(4, zi v2), (0, zr x0), (1, zi x1), (2, zi x2), (3, zi x3)]) dX8_spread_164 (by decide) rfl) ?_
  refine zst_ (gj_goto 74 (pc := 166) dX8_spread_166 (by decide)) ?_
  refine zst_ (gj_sub [1, 2, 3, 4, 0] rfl) ?_
  intro h
  cases h
  exact hk
noncomputable def f_X8_spread_74_b (x0 x1 x2 x3 x4 : Int) (σ : zM) : Option ((Int × Int × zM) ⊕ ((Int × Int × zM) ⊕ zO)) :=
  if x4 ≤ 0 then
    (f_X8_spread_169 x0 x1 x2 σ).map (fun r => (.inr r))
  else
    (zgf σ 800 x0).bind fun v1 =>
    (zgf σ 216 v1).bind fun v2 =>
    (zga σ 101 v2 (zsub x4 1)).bind fun v3 =>
    zlet ((zmul 8 v3)) fun y4 =>
    (zgf σ 803 x0).bind fun v5 =>
    (zga σ 101 v5 (zadd y4 (zrem x3 8))).bind fun v6 =>
    zlet ((zadd y4 v6)) fun y7 =>
    (zgf σ 815 x0).bind fun v8 =>
    (zga σ 101 v8 y7).bind fun v9 =>
    if v9 = 30000 then
      (zgf σ 815 x0).bind fun v10 =>
      (zgf σ 815 x0).bind fun v11 =>
      (zga σ 101 v11 x3).bind fun v12 =>
      (zpa σ 101 v10 y7 (zadd v12 1)).bind fun σ13 =>
      (zgf σ13 817 x0).bind fun v14 =>
      (zpa σ13 101 v14 x2 y7).bind fun σ15 =>
      zlet (zadd x2 1) fun y16 =>
      f_X8_spread_155 x0 x1 y16 x3 x4 σ15
    else
      f_X8_spread_155 x0 x1 x2 x3 x4 σ
noncomputable def f_X8_spread_74 (x0 x1 x2 x3 x4 : Int) (σ : zM) : Option ((Int × Int × zM) ⊕ zO) :=
  zloop (fun s : Int × Int × zM => f_X8_spread_74_b x0 x1 s.1 x3 s.2.1 s.2.2) (x2, x4, σ)
theorem w_X8_spread_74_b {g : zG} {lv : Nat} {out : zO} (x0 x1 x2 x3 x4 : Int) (σ : zM) {r : ((Int × Int × zM) ⊕ ((Int × Int × zM) ⊕ zO))} (h : f_X8_spread_74_b x0 x1 x2 x3 x4 σ = some r) (hk : (zKL (fun s : Int × Int × zM => Gj g MX8_spread (lv) 74 [(0, zr x0), (1, zi x1), (2, zi s.1), (3, zi x3), (4, zi s.2.1)] [] s.2.2 out) (zKL (fun s : Int × Int × zM => Gj g MX8_spread (lv) 48 [(0, zr x0), (1, zi s.1), (2, zi s.2.1)] [] s.2.2 out) (fun o : zO => o = out))) r) : Gj g MX8_spread (lv) 74 [(0, zr x0), (1, zi x1), (2, zi x2), (3, zi x3), (4, zi x4)] [] σ out := by
  revert h
  unfold f_X8_spread_74_b
  refine zst_ (gj_iload 4 (pc := 74) dX8_spread_74 rfl) ?_
  refine gb_if (gj_if_le 169 (pc := 76) dX8_spread_76 (by decide)) ?_ ?_
  · refine zst_ (gj_sub [0, 1, 2] rfl) ?_
    intro h
    obtain ⟨r0, h0, rfl⟩ := zmE h
    exact w_X8_spread_169 x0 x1 x2 σ h0 hk
  · refine zst_ (gj_bipush (pc := 79) dX8_spread_79 ⟨rfl, by decide⟩) ?_
    refine zst_ (gj_aload_n 0 (pc := 81) dX8_spread_81 rfl) ?_
    refine gb_get (pc := 82) fl800 dX8_spread_82 q765 (Or.inl rfl) (fun v1 => ?_)
    refine gb_getNe (pc := 85) fl216 dX8_spread_85 q304 (Or.inl rfl) (fun v2 => ?_)
    refine zst_ (gj_iload 4 (pc := 88) dX8_spread_88 rfl) ?_
    refine zst_ (gj_iconst (pc := 90) dX8_spread_90 (by decide)) ?_
    refine zst_ (gj_isub (pc := 91) dX8_spread_91) ?_
    refine gb_iald (pc := 92) dX8_spread_92 (fun v3 => ?_)
    refine zst_ (gj_imul (pc := 93) dX8_spread_93) ?_
    refine gb_let (fun y4 => ?_)
    refine zst_ (gj_istore (pc := 94) (ls' := [(5, zi y4), (0, zr x0), (1, zi x1), (2, zi x2), (3, zi x3), (4, zi x4)]) dX8_spread_94 (by decide) rfl) ?_
    refine zst_ (gj_iload 0 (pc := 96) dX8_spread_96 rfl) ?_
    refine zst_ (gj_aload_n 1 (pc := 98) dX8_spread_98 rfl) ?_
    refine gb_get (pc := 99) fl803 dX8_spread_99 q768 (Or.inl rfl) (fun v5 => ?_)
    refine zst_ (gj_iload 0 (pc := 102) dX8_spread_102 rfl) ?_
    refine zst_ (gj_iload_n 4 (pc := 104) dX8_spread_104 rfl) ?_
    refine zst_ (gj_bipush (pc := 105) dX8_spread_105 ⟨rfl, by decide⟩) ?_
    refine zst_ (gj_irem (pc := 107) dX8_spread_107 (by decide)) ?_
    refine zst_ (gj_iadd (pc := 108) dX8_spread_108) ?_
    refine gb_iald (pc := 109) dX8_spread_109 (fun v6 => ?_)
    refine zst_ (gj_iadd (pc := 110) dX8_spread_110) ?_
    refine gb_let (fun y7 => ?_)
    refine zst_ (gj_istore (pc := 111) (ls' := [(5, zi y7), (0, zr x0), (1, zi x1), (2, zi x2), (3, zi x3), (4, zi x4)]) dX8_spread_111 (by decide) rfl) ?_
    refine zst_ (gj_aload_n 1 (pc := 113) dX8_spread_113 rfl) ?_
    refine gb_get (pc := 114) fl815 dX8_spread_114 q780 (Or.inl rfl) (fun v8 => ?_)
    refine zst_ (gj_iload 0 (pc := 117) dX8_spread_117 rfl) ?_
    refine gb_iald (pc := 119) dX8_spread_119 (fun v9 => ?_)
    refine zst_ (gj_sipush (pc := 120) dX8_spread_120 ⟨rfl, by decide⟩) ?_
    refine gb_if (gj_icmp_eq 129 (pc := 123) dX8_spread_123 (by decide)) ?_ ?_
    · refine zst_ (gj_aload_n 1 (pc := 129) dX8_spread_129 rfl) ?_
      refine gb_get (pc := 130) fl815 dX8_spread_130 q780 (Or.inl rfl) (fun v10 => ?_)
      refine zst_ (gj_iload 0 (pc := 133) dX8_spread_133 rfl) ?_
      refine zst_ (gj_aload_n 1 (pc := 135) dX8_spread_135 rfl) ?_
      refine gb_get (pc := 136) fl815 dX8_spread_136 q780 (Or.inl rfl) (fun v11 => ?_)
      refine zst_ (gj_iload_n 4 (pc := 139) dX8_spread_139 rfl) ?_
      refine gb_iald (pc := 140) dX8_spread_140 (fun v12 => ?_)
      refine zst_ (gj_iconst (pc := 141) dX8_spread_141 (by decide)) ?_
      refine zst_ (gj_iadd (pc := 142) dX8_spread_142) ?_
      refine gb_iast (pc := 143) dX8_spread_143 (fun σ13 => ?_)
      refine zst_ (gj_aload_n 1 (pc := 144) dX8_spread_144 rfl) ?_
      refine gb_get (pc := 145) fl817 dX8_spread_145 q782 (Or.inl rfl) (fun v14 => ?_)
      refine zst_ (gj_iload_n 3 (pc := 148) dX8_spread_148 rfl) ?_
      refine zst_ (gj_iload 0 (pc := 149) dX8_spread_149 rfl) ?_
      refine gb_iast (pc := 151) dX8_spread_151 (fun σ15 => ?_)
      refine gb_iinc (pc := 152) 3 (fun y16 => [(2, zi y16), (5, zi y7), (0, zr x0), (1, zi x1), (3, zi x3), (4, zi x4)]) dX8_spread_152 rfl (by decide) (fun _ => rfl) (fun y16 => ?_)
      refine zst_ (gj_sub [2, 3, 0, 4, 5] rfl) ?_
      exact fun h => w_X8_spread_155 x0 x1 y16 x3 x4 σ15 h hk
    · refine zst_ (gj_goto 155 (pc := 126) dX8_spread_126 (by decide)) ?_
      refine zst_ (gj_sub [1, 2, 3, 4, 5] rfl) ?_
      exact fun h => w_X8_spread_155 x0 x1 x2 x3 x4 σ h hk
theorem w_X8_spread_74 {g : zG} {lv : Nat} {out : zO} (x0 x1 x2 x3 x4 : Int) (σ : zM) {r : ((Int × Int × zM) ⊕ zO)} (h : f_X8_spread_74 x0 x1 x2 x3 x4 σ = some r) (hk : (zKL (fun s : Int × Int × zM => Gj g MX8_spread (lv) 48 [(0, zr x0), (1, zi s.1), (2, zi s.2.1)] [] s.2.2 out) (fun o : zO => o = out)) r) : Gj g MX8_spread (lv) 74 [(0, zr x0), (1, zi x1), (2, zi x2), (3, zi x3), (4, zi x4)] [] σ out :=
  gj_loop (P := (fun s : Int × Int × zM => Gj g MX8_spread (lv) 74 [(0, zr x0), (1, zi x1), (2, zi s.1), (3, zi x3), (4, zi s.2.1)] [] s.2.2 out)) (fun s x hb hx => w_X8_spread_74_b x0 x1 s.1 x3 s.2.1 s.2.2 hb hx) h hk
noncomputable def f_X8_spread_48_b (x0 x1 x2 : Int) (σ : zM) : Option ((Int × Int × zM) ⊕ zO) :=
  if x2 ≤ x1 then
    (f_X8_spread_172 σ).map (fun r => (.inr r))
  else
    (zgf σ 817 x0).bind fun v1 =>
    (zga σ 101 v1 x1).bind fun v2 =>
    zlet (zadd x1 1) fun y3 =>
    (zgf σ 805 x0).bind fun v4 =>
    (zga σ 101 v4 (zdiv v2 8)).bind fun v5 =>
    f_X8_spread_74 x0 y3 x2 v2 v5 σ
noncomputable def f_X8_spread_48 (x0 x1 x2 : Int) (σ : zM) : Option zO :=
  zloop (fun s : Int × Int × zM => f_X8_spread_48_b x0 s.1 s.2.1 s.2.2) (x1, x2, σ)
theorem w_X8_spread_48_b {g : zG} {lv : Nat} {out : zO} (x0 x1 x2 : Int) (σ : zM) {r : ((Int × Int × zM) ⊕ zO)} (h : f_X8_spread_48_b x0 x1 x2 σ = some r) (hk : (zKL (fun s : Int × Int × zM => Gj g MX8_spread (lv) 48 [(0, zr x0), (1, zi s.1), (2, zi s.2.1)] [] s.2.2 out) (fun o : zO => o = out)) r) : Gj g MX8_spread (lv) 48 [(0, zr x0), (1, zi x1), (2, zi x2)] [] σ out := by
  revert h
  unfold f_X8_spread_48_b
  refine zst_ (gj_iload_n 1 (pc := 48) dX8_spread_48 rfl) ?_
  refine zst_ (gj_iload_n 2 (pc := 49) dX8_spread_49 rfl) ?_
  refine gb_if (gj_icmp_ge 172 (pc := 50) dX8_spread_50 (by decide)) ?_ ?_
  · refine zst_ (gj_sub [] rfl) ?_
    intro h
    obtain ⟨r0, h0, rfl⟩ := zmE h
    exact w_X8_spread_172 σ h0 hk
  · refine zst_ (gj_aload_n 0 (pc := 53) dX8_spread_53 rfl) ?_
    refine gb_get (pc := 54) fl817 dX8_spread_54 q782 (Or.inl rfl) (fun v1 => ?_)
    refine zst_ (gj_iload_n 1 (pc := 57) dX8_spread_57 rfl) ?_
    refine gb_iald (pc := 58) dX8_spread_58 (fun v2 => ?_)
    refine zst_ (gj_istore_n (pc := 59) (ls' := [(3, zi v2), (0, zr x0), (1, zi x1), (2, zi x2)]) dX8_spread_59 (by decide) rfl) ?_
    refine gb_iinc (pc := 60) 2 (fun y3 => [(1, zi y3), (3, zi v2), (0, zr x0), (2, zi x2)]) dX8_spread_60 rfl (by decide) (fun _ => rfl) (fun y3 => ?_)
    refine zst_ (gj_aload_n 2 (pc := 63) dX8_spread_63 rfl) ?_
    refine gb_get (pc := 64) fl805 dX8_spread_64 q770 (Or.inl rfl) (fun v4 => ?_)
    refine zst_ (gj_iload_n 1 (pc := 67) dX8_spread_67 rfl) ?_
    refine zst_ (gj_bipush (pc := 68) dX8_spread_68 ⟨rfl, by decide⟩) ?_
    refine zst_ (gj_idiv (pc := 70) dX8_spread_70 (by decide)) ?_
    refine gb_iald (pc := 71) dX8_spread_71 (fun v5 => ?_)
    refine zst_ (gj_istore (pc := 72) (ls' := [(4, zi v5), (1, zi y3), (3, zi v2), (0, zr x0), (2, zi x2)]) dX8_spread_72 (by decide) rfl) ?_
    refine zst_ (gj_sub [3, 1, 4, 2, 0] rfl) ?_
    exact fun h => w_X8_spread_74 x0 y3 x2 v2 v5 σ h hk
theorem w_X8_spread_48 {g : zG} {lv : Nat} {out : zO} (x0 x1 x2 : Int) (σ : zM) {r : zO} (h : f_X8_spread_48 x0 x1 x2 σ = some r) (hk : (fun o : zO => o = out) r) : Gj g MX8_spread (lv) 48 [(0, zr x0), (1, zi x1), (2, zi x2)] [] σ out :=
  gj_loop (P := (fun s : Int × Int × zM => Gj g MX8_spread (lv) 48 [(0, zr x0), (1, zi s.1), (2, zi s.2.1)] [] s.2.2 out)) (fun s x hb hx => w_X8_spread_48_b x0 s.1 s.2.1 s.2.2 hb hx) h hk
noncomputable def f_X8_spread_42 (x0 x1 x2 x3 : Int) (σ : zM) : Option ((Int × Int × zM) ⊕ zO) :=
  zlet (zadd x3 1) fun y1 =>
  some (.inl (x2, y1, σ))
theorem w_X8_spread_42 {g : zG} {lv : Nat} {out : zO} (x0 x1 x2 x3 : Int) (σ : zM) {r : ((Int × Int × zM) ⊕ zO)} (h : f_X8_spread_42 x0 x1 x2 x3 σ = some r) (hk : (zKL (fun s : Int × Int × zM => Gj g MX8_spread (lv) 6 [(0, zr x0), (1, zi x1), (2, zi s.1), (3, zi s.2.1)] [] s.2.2 out) (fun o : zO => o = out)) r) : Gj g MX8_spread (lv) 42 [(0, zr x0), (1, zi x1), (2, zi x2), (3, zi x3)] [] σ out := by
  revert h
  unfold f_X8_spread_42
  refine gb_iinc (pc := 42) 3 (fun y1 => [(3, zi y1), (0, zr x0), (1, zi x1), (2, zi x2)]) dX8_spread_42 rfl (by decide) (fun _ => rfl) (fun y1 => ?_)
  refine zst_ (gj_goto 6 (pc := 45) dX8_spread_45 (by decide)) ?_
  refine zst_ (gj_sub [1, 2, 3, 0] rfl) ?_
  intro h
  cases h
  exact hk
noncomputable def f_X8_spread_6_b (x0 x1 x2 x3 : Int) (σ : zM) : Option ((Int × Int × zM) ⊕ zO) :=
  (zgf σ 800 x0).bind fun v1 =>
  (zgf σ 220 v1).bind fun v2 =>
  if (zmul 8 v2) ≤ x3 then
    (f_X8_spread_48 x0 x1 x2 σ).map (fun r => (.inr r))
  else
    (zgf σ 815 x0).bind fun v3 =>
    (zga σ 101 v3 x3).bind fun v4 =>
    if v4 = 0 then
      (zgf σ 817 x0).bind fun v5 =>
      (zpa σ 101 v5 x2 x3).bind fun σ6 =>
      zlet (zadd x2 1) fun y7 =>
      f_X8_spread_42 x0 x1 y7 x3 σ6
    else
      f_X8_spread_42 x0 x1 x2 x3 σ
noncomputable def f_X8_spread_6 (x0 x1 x2 x3 : Int) (σ : zM) : Option zO :=
  zloop (fun s : Int × Int × zM => f_X8_spread_6_b x0 x1 s.1 s.2.1 s.2.2) (x2, x3, σ)
theorem w_X8_spread_6_b {g : zG} {lv : Nat} {out : zO} (x0 x1 x2 x3 : Int) (σ : zM) {r : ((Int × Int × zM) ⊕ zO)} (h : f_X8_spread_6_b x0 x1 x2 x3 σ = some r) (hk : (zKL (fun s : Int × Int × zM => Gj g MX8_spread (lv) 6 [(0, zr x0), (1, zi x1), (2, zi s.1), (3, zi s.2.1)] [] s.2.2 out) (fun o : zO => o = out)) r) : Gj g MX8_spread (lv) 6 [(0, zr x0), (1, zi x1), (2, zi x2), (3, zi x3)] [] σ out := by
  revert h
  unfold f_X8_spread_6_b
  refine zst_ (gj_iload_n 3 (pc := 6) dX8_spread_6 rfl) ?_
  refine zst_ (gj_bipush (pc := 7) dX8_spread_7 ⟨rfl, by decide⟩) ?_
  refine zst_ (gj_aload_n 0 (pc := 9) dX8_spread_9 rfl) ?_
  refine gb_get (pc := 10) fl800 dX8_spread_10 q765 (Or.inl rfl) (fun v1 => ?_)
  refine gb_getNe (pc := 13) fl220 dX8_spread_13 q313 (Or.inl rfl) (fun v2 => ?_)
  refine zst_ (gj_imul (pc := 16) dX8_spread_16) ?_
  refine gb_if (gj_icmp_ge 48 (pc := 17) dX8_spread_17 (by decide)) ?_ ?_
  · refine zst_ (gj_sub [0, 1, 2] rfl) ?_
    intro h
    obtain ⟨r0, h0, rfl⟩ := zmE h
    exact w_X8_spread_48 x0 x1 x2 σ h0 hk
  · refine zst_ (gj_aload_n 0 (pc := 20) dX8_spread_20 rfl) ?_
    refine gb_get (pc := 21) fl815 dX8_spread_21 q780 (Or.inl rfl) (fun v3 => ?_)
    refine zst_ (gj_iload_n 3 (pc := 24) dX8_spread_24 rfl) ?_
    refine gb_iald (pc := 25) dX8_spread_25 (fun v4 => ?_)
    refine gb_if (gj_if_eq 32 (pc := 26) dX8_spread_26 (by decide)) ?_ ?_
    · refine zst_ (gj_aload_n 0 (pc := 32) dX8_spread_32 rfl) ?_
      refine gb_get (pc := 33) fl817 dX8_spread_33 q782 (Or.inl rfl) (fun v5 => ?_)
      refine zst_ (gj_iload_n 2 (pc := 36) dX8_spread_36 rfl) ?_
      refine zst_ (gj_iload_n 3 (pc := 37) dX8_spread_37 rfl) ?_
      refine gb_iast (pc := 38) dX8_spread_38 (fun σ6 => ?_)
      refine gb_iinc (pc := 39) 2 (fun y7 => [(2, zi y7), (0, zr x0), (1, zi x1), (3, zi x3)]) dX8_spread_39 rfl (by decide) (fun _ => rfl) (fun y7 => ?_)
      refine zst_ (gj_sub [1, 2, 0, 3] rfl) ?_
      exact fun h => w_X8_spread_42 x0 x1 y7 x3 σ6 h hk
    · refine zst_ (gj_goto 42 (pc := 29) dX8_spread_29 (by decide)) ?_
      exact fun h => w_X8_spread_42 x0 x1 x2 x3 σ h hk
theorem w_X8_spread_6 {g : zG} {lv : Nat} {out : zO} (x0 x1 x2 x3 : Int) (σ : zM) {r : zO} (h : f_X8_spread_6 x0 x1 x2 x3 σ = some r) (hk : (fun o : zO => o = out) r) : Gj g MX8_spread (lv) 6 [(0, zr x0), (1, zi x1), (2, zi x2), (3, zi x3)] [] σ out :=
  gj_loop (P := (fun s : Int × Int × zM => Gj g MX8_spread (lv) 6 [(0, zr x0), (1, zi x1), (2, zi s.1), (3, zi s.2.1)] [] s.2.2 out)) (fun s x hb hx => w_X8_spread_6_b x0 x1 s.1 s.2.1 s.2.2 hb hx) h hk
noncomputable def f_X8_spread (x0 : Int) (σ : zM) : Option zO :=
  f_X8_spread_6 x0 0 0 0 σ
theorem c_X8_spread {g : zG} {lv : Nat} {x0 : Int} {σ : zM} {out : zO} (h : f_X8_spread x0 σ = some out) : Cj g (lv) MX8_spread [zr x0] σ out := by
  refine cj_go (ls := [(0, zr x0)]) (by decide) (Nat.le_of_ble_eq_true rfl) rfl (zgen h (fun r hk => ?_))
  unfold f_X8_spread
  refine zst_ (gj_iconst (pc := 0) dX8_spread_0 (by decide)) ?_
  refine zst_ (gj_istore_n (pc := 1) (ls' := [(1, zi 0), (0, zr x0)]) dX8_spread_1 (by decide) rfl) ?_
  refine zst_ (gj_iconst (pc := 2) dX8_spread_2 (by decide)) ?_
  refine zst_ (gj_istore_n (pc := 3) (ls' := [(2, zi 0), (1, zi 0), (0, zr x0)]) dX8_spread_3 (by decide) rfl) ?_
  refine zst_ (gj_iconst (pc := 4) dX8_spread_4 (by decide)) ?_
  refine zst_ (gj_istore_n (pc := 5) (ls' := [(3, zi 0), (2, zi 0), (1, zi 0), (0, zr x0)]) dX8_spread_5 (by decide) rfl) ?_
  refine zst_ (gj_sub [3, 2, 1, 0] rfl) ?_
  exact fun h => w_X8_spread_6 x0 0 0 0 σ h hk
theorem q1787 : (Jvm.Cond.code ({ cls := "LassoFinder$Search", name := "nearer", desc := "(IIII)I" } : Jvm.MethodName) prog_18_method_12_code (8 : Nat) (Option.some Jvm.ClassFile.FieldType.int)) ∈ lw_all := lw_g (lw_at lw_m8 7 rfl) rfl
abbrev cX8_nearer : ByteArray := prog_18_method_12_code
def yX8_nearer : MethodName := ⟨RX8, "nearer", "(IIII)I"⟩
theorem dX8_nearer_0 : decode cX8_nearer 0 = .ok (.iconst 0, 1) := by decide +kernel
theorem dX8_nearer_1 : decode cX8_nearer 1 = .ok (.istore 5, 2) := by decide +kernel
theorem dX8_nearer_3 : decode cX8_nearer 3 = .ok (.bipush 8, 2) := by decide +kernel
theorem dX8_nearer_5 : decode cX8_nearer 5 = .ok (.aload_n 0, 1) := by decide +kernel
theorem dX8_nearer_6 : decode cX8_nearer 6 = .ok (.getfield 64, 3) := by decide +kernel
theorem dX8_nearer_9 : decode cX8_nearer 9 = .ok (.getfield 106, 3) := by decide +kernel
theorem dX8_nearer_12 : decode cX8_nearer 12 = .ok (.iload_n 3, 1) := by decide +kernel
theorem dX8_nearer_13 : decode cX8_nearer 13 = .ok (.iaload, 1) := by decide +kernel
theorem dX8_nearer_14 : decode cX8_nearer 14 = .ok (.imul, 1) := by decide +kernel
theorem dX8_nearer_15 : decode cX8_nearer 15 = .ok (.istore 6, 2) := by decide +kernel
theorem dX8_nearer_17 : decode cX8_nearer 17 = .ok (.iconst 0, 1) := by decide +kernel
theorem dX8_nearer_18 : decode cX8_nearer 18 = .ok (.istore 7, 2) := by decide +kernel
theorem dX8_nearer_20 : decode cX8_nearer 20 = .ok (.iload 7, 2) := by decide +kernel
theorem dX8_nearer_22 : decode cX8_nearer 22 = .ok (.aload_n 0, 1) := by decide +kernel
theorem dX8_nearer_23 : decode cX8_nearer 23 = .ok (.invokevirtual 93, 3) := by decide +kernel
theorem dX8_nearer_26 : decode cX8_nearer 26 = .ok (.if_icmp .ge 53, 3) := by decide +kernel
theorem dX8_nearer_29 : decode cX8_nearer 29 = .ok (.aload_n 0, 1) := by decide +kernel
theorem dX8_nearer_30 : decode cX8_nearer 30 = .ok (.getfield 46, 3) := by decide +kernel
theorem dX8_nearer_33 : decode cX8_nearer 33 = .ok (.iload 6, 2) := by decide +kernel
theorem dX8_nearer_35 : decode cX8_nearer 35 = .ok (.iload 7, 2) := by decide +kernel
theorem dX8_nearer_37 : decode cX8_nearer 37 = .ok (.iadd, 1) := by decide +kernel
theorem dX8_nearer_38 : decode cX8_nearer 38 = .ok (.iaload, 1) := by decide +kernel
theorem dX8_nearer_39 : decode cX8_nearer 39 = .ok (.iload 4, 2) := by decide +kernel
theorem dX8_nearer_41 : decode cX8_nearer 41 = .ok (.if_icmp .ne 32, 3) := by decide +kernel
theorem dX8_nearer_44 : decode cX8_nearer 44 = .ok (.iload_n 2, 1) := by decide +kernel
theorem dX8_nearer_45 : decode cX8_nearer 45 = .ok (.aload_n 0, 1) := by decide +kernel
theorem dX8_nearer_46 : decode cX8_nearer 46 = .ok (.getfield 15, 3) := by decide +kernel
theorem dX8_nearer_49 : decode cX8_nearer 49 = .ok (.bipush 8, 2) := by decide +kernel
theorem dX8_nearer_51 : decode cX8_nearer 51 = .ok (.iload_n 1, 1) := by decide +kernel
theorem dX8_nearer_52 : decode cX8_nearer 52 = .ok (.imul, 1) := by decide +kernel
theorem dX8_nearer_53 : decode cX8_nearer 53 = .ok (.iload 7, 2) := by decide +kernel
theorem dX8_nearer_55 : decode cX8_nearer 55 = .ok (.iadd, 1) := by decide +kernel
theorem dX8_nearer_56 : decode cX8_nearer 56 = .ok (.iaload, 1) := by decide +kernel
theorem dX8_nearer_57 : decode cX8_nearer 57 = .ok (.ishr, 1) := by decide +kernel
theorem dX8_nearer_58 : decode cX8_nearer 58 = .ok (.iconst 1, 1) := by decide +kernel
theorem dX8_nearer_59 : decode cX8_nearer 59 = .ok (.iand, 1) := by decide +kernel
theorem dX8_nearer_60 : decode cX8_nearer 60 = .ok (.iconst 1, 1) := by decide +kernel
theorem dX8_nearer_61 : decode cX8_nearer 61 = .ok (.if_icmp .ne 12, 3) := by decide +kernel
theorem dX8_nearer_64 : decode cX8_nearer 64 = .ok (.iload 5, 2) := by decide +kernel
theorem dX8_nearer_66 : decode cX8_nearer 66 = .ok (.iconst 1, 1) := by decide +kernel
theorem dX8_nearer_67 : decode cX8_nearer 67 = .ok (.iload 7, 2) := by decide +kernel
theorem dX8_nearer_69 : decode cX8_nearer 69 = .ok (.ishl, 1) := by decide +kernel
theorem dX8_nearer_70 : decode cX8_nearer 70 = .ok (.ior, 1) := by decide +kernel
theorem dX8_nearer_71 : decode cX8_nearer 71 = .ok (.istore 5, 2) := by decide +kernel
theorem dX8_nearer_73 : decode cX8_nearer 73 = .ok (.iinc 7 1, 3) := by decide +kernel
theorem dX8_nearer_76 : decode cX8_nearer 76 = .ok (.goto (-56), 3) := by decide +kernel
theorem dX8_nearer_79 : decode cX8_nearer 79 = .ok (.iload 5, 2) := by decide +kernel
theorem dX8_nearer_81 : decode cX8_nearer 81 = .ok (.ireturn, 1) := by decide +kernel
abbrev MX8_nearer : zT := (yX8_nearer, cX8_nearer, 8, (Option.some Jvm.ClassFile.FieldType.int), [])
theorem plX8_nearer : zplain MX8_nearer 4 ∧ (zcodeW MX8_nearer ∈ lw_all ∧ Cond.initialized MX8_nearer.1.cls ∈ lw_all) := ⟨⟨by decide +kernel, by decide +kernel⟩, q1787, q126⟩
noncomputable def f_X8_nearer_79 (x5 : Int) (σ : zM) : Option zO :=
  some (0, zi x5, σ)
theorem w_X8_nearer_79 {g : zG} {lv : Nat} {out : zO} (x5 : Int) (σ : zM) {r : zO} (h : f_X8_nearer_79 x5 σ = some r) (hk : (fun o : zO => o = out) r) : Gj g MX8_nearer (lv + 1) 79 [(5, zi x5)] [] σ out := by
  revert h
  unfold f_X8_nearer_79
  refine zst_ (gj_iload 0 (pc := 79) dX8_nearer_79 rfl) ?_
  intro h
  cases h
  have hk : (0, zi x5, σ) = out := hk
  subst hk
  exact gj_ret (pc := 81) (t := .int) dX8_nearer_81 rfl ⟨rfl, rfl⟩ (fun h => h)
noncomputable def f_X8_nearer_73 (x0 x1 x2 x4 x5 x6 x7 : Int) (σ : zM) : Option ((Int × Int × zM) ⊕ zO) :=
  zlet (zadd x7 1) fun y1 =>
  some (.inl (x5, y1, σ))
theorem w_X8_nearer_73 {g : zG} {lv : Nat} {out : zO} (x0 x1 x2 x4 x5 x6 x7 : Int) (σ : zM) {r : ((Int × Int × zM) ⊕ zO)} (h : f_X8_nearer_73 x0 x1 x2 x4 x5 x6 x7 σ = some r) (hk : (zKL (fun s : Int × Int × zM => Gj g MX8_nearer (lv + 1) 20 [(0, zr x0), (1, zi x1), (2, zi x2), (4, zi x4), (5, zi s.1), (6, zi x6), (7, zi s.2.1)] [] s.2.2 out) (fun o : zO => o = out)) r) : Gj g MX8_nearer (lv + 1) 73 [(0, zr x0), (1, zi x1), (2, zi x2), (4, zi x4), (5, zi x5), (6, zi x6), (7, zi x7)] [] σ out := by
  revert h
  unfold f_X8_nearer_73
  refine gb_iinc (pc := 73) 6 (fun y1 => [(7, zi y1), (0, zr x0), (1, zi x1), (2, zi x2), (4, zi x4), (5, zi x5), (6, zi x6)]) dX8_nearer_73 rfl (by decide) (fun _ => rfl) (fun y1 => ?_)
  refine zst_ (gj_goto 20 (pc := 76) dX8_nearer_76 (by decide)) ?_
  refine zst_ (gj_sub [1, 2, 3, 4, 5, 6, 0] rfl) ?_
  intro h
  cases h
  exact hk
noncomputable def f_X8_nearer_20_b (x0 x1 x2 x4 x5 x6 x7 : Int) (σ : zM) : Option ((Int × Int × zM) ⊕ zO) :=
  zgd (zis σ 9 x0) <|
  zci (f_X8_kinds x0 σ) fun v1 σ2 =>
  if v1 ≤ x7 then
    (f_X8_nearer_79 x5 σ2).map (fun r => (.inr r))
  else
    (zgf σ2 815 x0).bind fun v3 =>
    (zga σ2 101 v3 (zadd x6 x7)).bind fun v4 =>
    if v4 ≠ x4 then
      f_X8_nearer_73 x0 x1 x2 x4 x5 x6 x7 σ2
    else
      (zgf σ2 803 x0).bind fun v5 =>
      (zga σ2 101 v5 (zadd (zmul 8 x1) x7)).bind fun v6 =>
      if (zand (zshr x2 v6) 1) ≠ 1 then
        f_X8_nearer_73 x0 x1 x2 x4 x5 x6 x7 σ2
      else
        zlet ((zor x5 (zshl 1 x7))) fun y7 =>
        f_X8_nearer_73 x0 x1 x2 x4 y7 x6 x7 σ2
noncomputable def f_X8_nearer_20 (x0 x1 x2 x4 x5 x6 x7 : Int) (σ : zM) : Option zO :=
  zloop (fun s : Int × Int × zM => f_X8_nearer_20_b x0 x1 x2 x4 s.1 x6 s.2.1 s.2.2) (x5, x7, σ)
theorem w_X8_nearer_20_b {g : zG} {lv : Nat} {out : zO} (x0 x1 x2 x4 x5 x6 x7 : Int) (σ : zM) {r : ((Int × Int × zM) ⊕ zO)} (h : f_X8_nearer_20_b x0 x1 x2 x4 x5 x6 x7 σ = some r) (hk : (zKL (fun s : Int × Int × zM => Gj g MX8_nearer (lv + 1) 20 [(0, zr x0), (1, zi x1), (2, zi x2), (4, zi x4), (5, zi s.1), (6, zi x6), (7, zi s.2.1)] [] s.2.2 out) (fun o : zO => o = out)) r) : Gj g MX8_nearer (lv + 1) 20 [(0, zr x0), (1, zi x1), (2, zi x2), (4, zi x4), (5, zi x5), (6, zi x6), (7, zi x7)] [] σ out := by
  revert h
  unfold f_X8_nearer_20_b
  refine zst_ (gj_iload 6 (pc := 20) dX8_nearer_20 rfl) ?_
  refine zst_ (gj_aload_n 0 (pc := 22) dX8_nearer_22 rfl) ?_
  refine gb_gd (fun hb => ?_)
  refine gb_callI (pc := 23) (as := [zr x0]) (rest := [zi x7]) (zCl.of (zLk_V (M := MX8_nearer) (ci := 8) (r := (RX8, TX8, 23)) plX8_kinds.1 rfl rfl (zisE hb).1 (zisE hb).2 dX8_nearer_23 q1699 q1701 qs30 q1702) plX8_kinds (Nat.le_of_ble_eq_true rfl) (fun h => c_X8_kinds h)) (fun v1 σ2 => ?_)
  refine gb_if (gj_icmp_ge 79 (pc := 26) dX8_nearer_26 (by decide)) ?_ ?_
  · refine zst_ (gj_sub [4] rfl) ?_
    intro h
    obtain ⟨r0, h0, rfl⟩ := zmE h
    exact w_X8_nearer_79 x5 σ2 h0 hk
  · refine zst_ (gj_aload_n 0 (pc := 29) dX8_nearer_29 rfl) ?_
    refine gb_get (pc := 30) fl815 dX8_nearer_30 q780 (Or.inl rfl) (fun v3 => ?_)
    refine zst_ (gj_iload 5 (pc := 33) dX8_nearer_33 rfl) ?_
    refine zst_ (gj_iload 6 (pc := 35) dX8_nearer_35 rfl) ?_
    refine zst_ (gj_iadd (pc := 37) dX8_nearer_37) ?_
    refine gb_iald (pc := 38) dX8_nearer_38 (fun v4 => ?_)
    refine zst_ (gj_iload 3 (pc := 39) dX8_nearer_39 rfl) ?_
    refine gb_if (gj_icmp_ne 73 (pc := 41) dX8_nearer_41 (by decide)) ?_ ?_
    · exact fun h => w_X8_nearer_73 x0 x1 x2 x4 x5 x6 x7 σ2 h hk
    · refine zst_ (gj_iload_n 2 (pc := 44) dX8_nearer_44 rfl) ?_
      refine zst_ (gj_aload_n 0 (pc := 45) dX8_nearer_45 rfl) ?_
      refine gb_get (pc := 46) fl803 dX8_nearer_46 q768 (Or.inl rfl) (fun v5 => ?_)
      refine zst_ (gj_bipush (pc := 49) dX8_nearer_49 ⟨rfl, by decide⟩) ?_
      refine zst_ (gj_iload_n 1 (pc := 51) dX8_nearer_51 rfl) ?_
      refine zst_ (gj_imul (pc := 52) dX8_nearer_52) ?_
      refine zst_ (gj_iload 6 (pc := 53) dX8_nearer_53 rfl) ?_
      refine zst_ (gj_iadd (pc := 55) dX8_nearer_55) ?_
      refine gb_iald (pc := 56) dX8_nearer_56 (fun v6 => ?_)
      refine zst_ (gj_ishr (pc := 57) dX8_nearer_57) ?_
      refine zst_ (gj_iconst (pc := 58) dX8_nearer_58 (by decide)) ?_
      refine zst_ (gj_iand (pc := 59) dX8_nearer_59) ?_
      refine zst_ (gj_iconst (pc := 60) dX8_nearer_60 (by decide)) ?_
      refine gb_if (gj_icmp_ne 73 (pc := 61) dX8_nearer_61 (by decide)) ?_ ?_
      · exact fun h => w_X8_nearer_73 x0 x1 x2 x4 x5 x6 x7 σ2 h hk
      · refine zst_ (gj_iload 4 (pc := 64) dX8_nearer_64 rfl) ?_
        refine zst_ (gj_iconst (pc := 66) dX8_nearer_66 (by decide)) ?_
        refine zst_ (gj_iload 6 (pc := 67) dX8_nearer_67 rfl) ?_
        refine zst_ (gj_ishl (pc := 69) dX8_nearer_69) ?_
        refine zst_ (gj_ior (pc := 70) dX8_nearer_70) ?_
        refine gb_let (fun y7 => ?_)
        refine zst_ (gj_istore (pc := 71) (ls' := [(5, zi y7), (0, zr x0), (1, zi x1), (2, zi x2), (4, zi x4), (6, zi x6), (7, zi x7)]) dX8_nearer_71 (by decide) rfl) ?_
        refine zst_ (gj_sub [1, 2, 3, 4, 0, 5, 6] rfl) ?_
        exact fun h => w_X8_nearer_73 x0 x1 x2 x4 y7 x6 x7 σ2 h hk
theorem w_X8_nearer_20 {g : zG} {lv : Nat} {out : zO} (x0 x1 x2 x4 x5 x6 x7 : Int) (σ : zM) {r : zO} (h : f_X8_nearer_20 x0 x1 x2 x4 x5 x6 x7 σ = some r) (hk : (fun o : zO => o = out) r) : Gj g MX8_nearer (lv + 1) 20 [(0, zr x0), (1, zi x1), (2, zi x2), (4, zi x4), (5, zi x5), (6, zi x6), (7, zi x7)] [] σ out :=
  gj_loop (P := (fun s : Int × Int × zM => Gj g MX8_nearer (lv + 1) 20 [(0, zr x0), (1, zi x1), (2, zi x2), (4, zi x4), (5, zi s.1), (6, zi x6), (7, zi s.2.1)] [] s.2.2 out)) (fun s x hb hx => w_X8_nearer_20_b x0 x1 x2 x4 s.1 x6 s.2.1 s.2.2 hb hx) h hk
noncomputable def f_X8_nearer (x0 x1 x2 x3 x4 : Int) (σ : zM) : Option zO :=
  (zgf σ 800 x0).bind fun v1 =>
  (zgf σ 217 v1).bind fun v2 =>
  (zga σ 101 v2 x3).bind fun v3 =>
  zlet ((zmul 8 v3)) fun y4 =>
  f_X8_nearer_20 x0 x1 x2 x4 0 y4 0 σ
theorem c_X8_nearer {g : zG} {lv : Nat} {x0 x1 x2 x3 x4 : Int} {σ : zM} {out : zO} (h : f_X8_nearer x0 x1 x2 x3 x4 σ = some out) : Cj g (lv + 1) MX8_nearer [zr x0, zi x1, zi x2, zi x3, zi x4] σ out := by
  refine cj_go (ls := [(0, zr x0), (1, zi x1), (2, zi x2), (3, zi x3), (4, zi x4)]) (by decide) (Nat.le_of_ble_eq_true rfl) rfl (zgen h (fun r hk => ?_))
  unfold f_X8_nearer
  refine zst_ (gj_iconst (pc := 0) dX8_nearer_0 (by decide)) ?_
  refine zst_ (gj_istore (pc := 1) (ls' := [(5, zi 0), (0, zr x0), (1, zi x1), (2, zi x2), (3, zi x3), (4, zi x4)]) dX8_nearer_1 (by decide) rfl) ?_
  refine zst_ (gj_bipush (pc := 3) dX8_nearer_3 ⟨rfl, by decide⟩) ?_
  refine zst_ (gj_aload_n 1 (pc := 5) dX8_nearer_5 rfl) ?_
  refine gb_get (pc := 6) fl800 dX8_nearer_6 q765 (Or.inl rfl) (fun v1 => ?_)
  refine gb_getNe (pc := 9) fl217 dX8_nearer_9 q306 (Or.inl rfl) (fun v2 => ?_)
  refine zst_ (gj_iload_n 4 (pc := 12) dX8_nearer_12 rfl) ?_
  refine gb_iald (pc := 13) dX8_nearer_13 (fun v3 => ?_)
  refine zst_ (gj_imul (pc := 14) dX8_nearer_14) ?_
  refine gb_let (fun y4 => ?_)
  refine zst_ (gj_istore (pc := 15) (ls' := [(6, zi y4), (5, zi 0), (0, zr x0), (1, zi x1), (2, zi x2), (3, zi x3), (4, zi x4)]) dX8_nearer_15 (by decide) rfl) ?_
  refine zst_ (gj_iconst (pc := 17) dX8_nearer_17 (by decide)) ?_
  refine zst_ (gj_istore (pc := 18) (ls' := [(7, zi 0), (6, zi y4), (5, zi 0), (0, zr x0), (1, zi x1), (2, zi x2), (3, zi x3), (4, zi x4)]) dX8_nearer_18 (by decide) rfl) ?_
  refine zst_ (gj_sub [3, 4, 5, 7, 2, 1, 0] rfl) ?_
  exact fun h => w_X8_nearer_20 x0 x1 x2 x4 0 y4 0 σ h hk
theorem q781 : (Jvm.Cond.fieldLink "LassoFinder$Search" (49 : Nat) "LassoFinder$Search" "round" "[I") ∈ lw_all := lw_g (lw_at lw_m3 201 rfl) rfl
theorem q1795 : (Jvm.Cond.code ({ cls := "LassoFinder$Search", name := "unwind", desc := "(II)V" } : Jvm.MethodName) prog_18_method_14_code (11 : Nat) (Option.none : Option Jvm.ClassFile.FieldType)) ∈ lw_all := lw_g (lw_at lw_m8 15 rfl) rfl
theorem fl816 : zfl 816 2 "LassoFinder$Search" "round" "[I" true := ⟨rfl, rfl, rfl⟩
theorem fr816 {g : zG} {v : Int} : zok g (2, v) → zokt g (zft 816) v := fun h => h
abbrev cX8_unwind : ByteArray := prog_18_method_14_code
def yX8_unwind : MethodName := ⟨RX8, "unwind", "(II)V"⟩
theorem dX8_unwind_0 : decode cX8_unwind 0 = .ok (.iconst 0, 1) := by decide +kernel
theorem dX8_unwind_1 : decode cX8_unwind 1 = .ok (.istore_n 3, 1) := by decide +kernel
theorem dX8_unwind_2 : decode cX8_unwind 2 = .ok (.iload_n 3, 1) := by decide +kernel
theorem dX8_unwind_3 : decode cX8_unwind 3 = .ok (.bipush 64, 2) := by decide +kernel
theorem dX8_unwind_5 : decode cX8_unwind 5 = .ok (.aload_n 0, 1) := by decide +kernel
theorem dX8_unwind_6 : decode cX8_unwind 6 = .ok (.getfield 64, 3) := by decide +kernel
theorem dX8_unwind_9 : decode cX8_unwind 9 = .ok (.getfield 77, 3) := by decide +kernel
theorem dX8_unwind_12 : decode cX8_unwind 12 = .ok (.imul, 1) := by decide +kernel
theorem dX8_unwind_13 : decode cX8_unwind 13 = .ok (.if_icmp .ge 18, 3) := by decide +kernel
theorem dX8_unwind_16 : decode cX8_unwind 16 = .ok (.aload_n 0, 1) := by decide +kernel
theorem dX8_unwind_17 : decode cX8_unwind 17 = .ok (.getfield 49, 3) := by decide +kernel
theorem dX8_unwind_20 : decode cX8_unwind 20 = .ok (.iload_n 3, 1) := by decide +kernel
theorem dX8_unwind_21 : decode cX8_unwind 21 = .ok (.sipush 30000, 3) := by decide +kernel
theorem dX8_unwind_24 : decode cX8_unwind 24 = .ok (.iastore, 1) := by decide +kernel
theorem dX8_unwind_25 : decode cX8_unwind 25 = .ok (.iinc 3 1, 3) := by decide +kernel
theorem dX8_unwind_28 : decode cX8_unwind 28 = .ok (.goto (-26), 3) := by decide +kernel
theorem dX8_unwind_31 : decode cX8_unwind 31 = .ok (.iconst 0, 1) := by decide +kernel
theorem dX8_unwind_32 : decode cX8_unwind 32 = .ok (.istore_n 3, 1) := by decide +kernel
theorem dX8_unwind_33 : decode cX8_unwind 33 = .ok (.iconst 1, 1) := by decide +kernel
theorem dX8_unwind_34 : decode cX8_unwind 34 = .ok (.istore 4, 2) := by decide +kernel
theorem dX8_unwind_36 : decode cX8_unwind 36 = .ok (.aload_n 0, 1) := by decide +kernel
theorem dX8_unwind_37 : decode cX8_unwind 37 = .ok (.getfield 52, 3) := by decide +kernel
theorem dX8_unwind_40 : decode cX8_unwind 40 = .ok (.iconst 0, 1) := by decide +kernel
theorem dX8_unwind_41 : decode cX8_unwind 41 = .ok (.bipush 8, 2) := by decide +kernel
theorem dX8_unwind_43 : decode cX8_unwind 43 = .ok (.iload_n 1, 1) := by decide +kernel
theorem dX8_unwind_44 : decode cX8_unwind 44 = .ok (.imul, 1) := by decide +kernel
theorem dX8_unwind_45 : decode cX8_unwind 45 = .ok (.iload_n 2, 1) := by decide +kernel
theorem dX8_unwind_46 : decode cX8_unwind 46 = .ok (.iadd, 1) := by decide +kernel
theorem dX8_unwind_47 : decode cX8_unwind 47 = .ok (.iastore, 1) := by decide +kernel
theorem dX8_unwind_48 : decode cX8_unwind 48 = .ok (.aload_n 0, 1) := by decide +kernel
theorem dX8_unwind_49 : decode cX8_unwind 49 = .ok (.getfield 49, 3) := by decide +kernel
theorem dX8_unwind_52 : decode cX8_unwind 52 = .ok (.aload_n 0, 1) := by decide +kernel
theorem dX8_unwind_53 : decode cX8_unwind 53 = .ok (.getfield 52, 3) := by decide +kernel
theorem dX8_unwind_56 : decode cX8_unwind 56 = .ok (.iconst 0, 1) := by decide +kernel
theorem dX8_unwind_57 : decode cX8_unwind 57 = .ok (.iaload, 1) := by decide +kernel
theorem dX8_unwind_58 : decode cX8_unwind 58 = .ok (.iconst 0, 1) := by decide +kernel
theorem dX8_unwind_59 : decode cX8_unwind 59 = .ok (.iastore, 1) := by decide +kernel
theorem dX8_unwind_60 : decode cX8_unwind 60 = .ok (.iload_n 3, 1) := by decide +kernel
theorem dX8_unwind_61 : decode cX8_unwind 61 = .ok (.iload 4, 2) := by decide +kernel
theorem dX8_unwind_63 : decode cX8_unwind 63 = .ok (.if_icmp .ge 187, 3) := by decide +kernel
theorem dX8_unwind_66 : decode cX8_unwind 66 = .ok (.aload_n 0, 1) := by decide +kernel
theorem dX8_unwind_67 : decode cX8_unwind 67 = .ok (.getfield 52, 3) := by decide +kernel
theorem dX8_unwind_70 : decode cX8_unwind 70 = .ok (.iload_n 3, 1) := by decide +kernel
theorem dX8_unwind_71 : decode cX8_unwind 71 = .ok (.iaload, 1) := by decide +kernel
theorem dX8_unwind_72 : decode cX8_unwind 72 = .ok (.bipush 8, 2) := by decide +kernel
theorem dX8_unwind_74 : decode cX8_unwind 74 = .ok (.idiv, 1) := by decide +kernel
theorem dX8_unwind_75 : decode cX8_unwind 75 = .ok (.istore 5, 2) := by decide +kernel
theorem dX8_unwind_77 : decode cX8_unwind 77 = .ok (.aload_n 0, 1) := by decide +kernel
theorem dX8_unwind_78 : decode cX8_unwind 78 = .ok (.getfield 52, 3) := by decide +kernel
theorem dX8_unwind_81 : decode cX8_unwind 81 = .ok (.iload_n 3, 1) := by decide +kernel
theorem dX8_unwind_82 : decode cX8_unwind 82 = .ok (.iaload, 1) := by decide +kernel
theorem dX8_unwind_83 : decode cX8_unwind 83 = .ok (.bipush 8, 2) := by decide +kernel
theorem dX8_unwind_85 : decode cX8_unwind 85 = .ok (.irem, 1) := by decide +kernel
theorem dX8_unwind_86 : decode cX8_unwind 86 = .ok (.istore 6, 2) := by decide +kernel
theorem dX8_unwind_88 : decode cX8_unwind 88 = .ok (.aload_n 0, 1) := by decide +kernel
theorem dX8_unwind_89 : decode cX8_unwind 89 = .ok (.getfield 21, 3) := by decide +kernel
theorem dX8_unwind_92 : decode cX8_unwind 92 = .ok (.iload 5, 2) := by decide +kernel
theorem dX8_unwind_94 : decode cX8_unwind 94 = .ok (.bipush 8, 2) := by decide +kernel
theorem dX8_unwind_96 : decode cX8_unwind 96 = .ok (.idiv, 1) := by decide +kernel
theorem dX8_unwind_97 : decode cX8_unwind 97 = .ok (.iaload, 1) := by decide +kernel
theorem dX8_unwind_98 : decode cX8_unwind 98 = .ok (.istore 7, 2) := by decide +kernel
theorem dX8_unwind_100 : decode cX8_unwind 100 = .ok (.iload 7, 2) := by decide +kernel
theorem dX8_unwind_102 : decode cX8_unwind 102 = .ok (.ifCond .le 142, 3) := by decide +kernel
theorem dX8_unwind_105 : decode cX8_unwind 105 = .ok (.bipush 8, 2) := by decide +kernel
theorem dX8_unwind_107 : decode cX8_unwind 107 = .ok (.aload_n 0, 1) := by decide +kernel
theorem dX8_unwind_108 : decode cX8_unwind 108 = .ok (.getfield 64, 3) := by decide +kernel
theorem dX8_unwind_111 : decode cX8_unwind 111 = .ok (.getfield 144, 3) := by decide +kernel
theorem dX8_unwind_114 : decode cX8_unwind 114 = .ok (.iload 7, 2) := by decide +kernel
theorem dX8_unwind_116 : decode cX8_unwind 116 = .ok (.iconst 1, 1) := by decide +kernel
theorem dX8_unwind_117 : decode cX8_unwind 117 = .ok (.isub, 1) := by decide +kernel
theorem dX8_unwind_118 : decode cX8_unwind 118 = .ok (.iaload, 1) := by decide +kernel
theorem dX8_unwind_119 : decode cX8_unwind 119 = .ok (.imul, 1) := by decide +kernel
theorem dX8_unwind_120 : decode cX8_unwind 120 = .ok (.istore 8, 2) := by decide +kernel
theorem dX8_unwind_122 : decode cX8_unwind 122 = .ok (.bipush 8, 2) := by decide +kernel
theorem dX8_unwind_124 : decode cX8_unwind 124 = .ok (.iload 8, 2) := by decide +kernel
theorem dX8_unwind_126 : decode cX8_unwind 126 = .ok (.aload_n 0, 1) := by decide +kernel
theorem dX8_unwind_127 : decode cX8_unwind 127 = .ok (.getfield 15, 3) := by decide +kernel
theorem dX8_unwind_130 : decode cX8_unwind 130 = .ok (.iload 8, 2) := by decide +kernel
theorem dX8_unwind_132 : decode cX8_unwind 132 = .ok (.iload 5, 2) := by decide +kernel
theorem dX8_unwind_134 : decode cX8_unwind 134 = .ok (.bipush 8, 2) := by decide +kernel
theorem dX8_unwind_136 : decode cX8_unwind 136 = .ok (.irem, 1) := by decide +kernel
theorem dX8_unwind_137 : decode cX8_unwind 137 = .ok (.iadd, 1) := by decide +kernel
theorem dX8_unwind_138 : decode cX8_unwind 138 = .ok (.iaload, 1) := by decide +kernel
theorem dX8_unwind_139 : decode cX8_unwind 139 = .ok (.iadd, 1) := by decide +kernel
theorem dX8_unwind_140 : decode cX8_unwind 140 = .ok (.imul, 1) := by decide +kernel
theorem dX8_unwind_141 : decode cX8_unwind 141 = .ok (.istore 9, 2) := by decide +kernel
theorem dX8_unwind_143 : decode cX8_unwind 143 = .ok (.iconst 0, 1) := by decide +kernel
theorem dX8_unwind_144 : decode cX8_unwind 144 = .ok (.istore 10, 2) := by decide +kernel
theorem dX8_unwind_146 : decode cX8_unwind 146 = .ok (.iload 10, 2) := by decide +kernel
theorem dX8_unwind_148 : decode cX8_unwind 148 = .ok (.iload_n 2, 1) := by decide +kernel
theorem dX8_unwind_149 : decode cX8_unwind 149 = .ok (.if_icmp .gt 81, 3) := by decide +kernel
theorem dX8_unwind_152 : decode cX8_unwind 152 = .ok (.iload 10, 2) := by decide +kernel
theorem dX8_unwind_154 : decode cX8_unwind 154 = .ok (.aload_n 0, 1) := by decide +kernel
theorem dX8_unwind_155 : decode cX8_unwind 155 = .ok (.getfield 18, 3) := by decide +kernel
theorem dX8_unwind_158 : decode cX8_unwind 158 = .ok (.iload 5, 2) := by decide +kernel
theorem dX8_unwind_160 : decode cX8_unwind 160 = .ok (.iaload, 1) := by decide +kernel
theorem dX8_unwind_161 : decode cX8_unwind 161 = .ok (.ior, 1) := by decide +kernel
theorem dX8_unwind_162 : decode cX8_unwind 162 = .ok (.iload 6, 2) := by decide +kernel
theorem dX8_unwind_164 : decode cX8_unwind 164 = .ok (.if_icmp .ne 60, 3) := by decide +kernel
theorem dX8_unwind_167 : decode cX8_unwind 167 = .ok (.aload_n 0, 1) := by decide +kernel
theorem dX8_unwind_168 : decode cX8_unwind 168 = .ok (.getfield 49, 3) := by decide +kernel
theorem dX8_unwind_171 : decode cX8_unwind 171 = .ok (.iload 9, 2) := by decide +kernel
theorem dX8_unwind_173 : decode cX8_unwind 173 = .ok (.iload 10, 2) := by decide +kernel
theorem dX8_unwind_175 : decode cX8_unwind 175 = .ok (.iadd, 1) := by decide +kernel
theorem dX8_unwind_176 : decode cX8_unwind 176 = .ok (.iaload, 1) := by decide +kernel
theorem dX8_unwind_177 : decode cX8_unwind 177 = .ok (.sipush 30000, 3) := by decide +kernel
theorem dX8_unwind_180 : decode cX8_unwind 180 = .ok (.if_icmp .eq 6, 3) := by decide +kernel
theorem dX8_unwind_183 : decode cX8_unwind 183 = .ok (.goto 41, 3) := by decide +kernel
theorem dX8_unwind_186 : decode cX8_unwind 186 = .ok (.aload_n 0, 1) := by decide +kernel
theorem dX8_unwind_187 : decode cX8_unwind 187 = .ok (.getfield 49, 3) := by decide +kernel
theorem dX8_unwind_190 : decode cX8_unwind 190 = .ok (.iload 9, 2) := by decide +kernel
theorem dX8_unwind_192 : decode cX8_unwind 192 = .ok (.iload 10, 2) := by decide +kernel
theorem dX8_unwind_194 : decode cX8_unwind 194 = .ok (.iadd, 1) := by decide +kernel
theorem dX8_unwind_195 : decode cX8_unwind 195 = .ok (.aload_n 0, 1) := by decide +kernel
theorem dX8_unwind_196 : decode cX8_unwind 196 = .ok (.getfield 49, 3) := by decide +kernel
theorem dX8_unwind_199 : decode cX8_unwind 199 = .ok (.aload_n 0, 1) := by decide +kernel
theorem dX8_unwind_200 : decode cX8_unwind 200 = .ok (.getfield 52, 3) := by decide +kernel
theorem dX8_unwind_203 : decode cX8_unwind 203 = .ok (.iload_n 3, 1) := by decide +kernel
theorem dX8_unwind_204 : decode cX8_unwind 204 = .ok (.iaload, 1) := by decide +kernel
theorem dX8_unwind_205 : decode cX8_unwind 205 = .ok (.iaload, 1) := by decide +kernel
theorem dX8_unwind_206 : decode cX8_unwind 206 = .ok (.iconst 1, 1) := by decide +kernel
theorem dX8_unwind_207 : decode cX8_unwind 207 = .ok (.iadd, 1) := by decide +kernel
theorem dX8_unwind_208 : decode cX8_unwind 208 = .ok (.iastore, 1) := by decide +kernel
theorem dX8_unwind_209 : decode cX8_unwind 209 = .ok (.aload_n 0, 1) := by decide +kernel
theorem dX8_unwind_210 : decode cX8_unwind 210 = .ok (.getfield 52, 3) := by decide +kernel
theorem dX8_unwind_213 : decode cX8_unwind 213 = .ok (.iload 4, 2) := by decide +kernel
theorem dX8_unwind_215 : decode cX8_unwind 215 = .ok (.iload 9, 2) := by decide +kernel
theorem dX8_unwind_217 : decode cX8_unwind 217 = .ok (.iload 10, 2) := by decide +kernel
theorem dX8_unwind_219 : decode cX8_unwind 219 = .ok (.iadd, 1) := by decide +kernel
theorem dX8_unwind_220 : decode cX8_unwind 220 = .ok (.iastore, 1) := by decide +kernel
theorem dX8_unwind_221 : decode cX8_unwind 221 = .ok (.iinc 4 1, 3) := by decide +kernel
theorem dX8_unwind_224 : decode cX8_unwind 224 = .ok (.iinc 10 1, 3) := by decide +kernel
theorem dX8_unwind_227 : decode cX8_unwind 227 = .ok (.goto (-81), 3) := by decide +kernel
theorem dX8_unwind_230 : decode cX8_unwind 230 = .ok (.aload_n 0, 1) := by decide +kernel
theorem dX8_unwind_231 : decode cX8_unwind 231 = .ok (.getfield 24, 3) := by decide +kernel
theorem dX8_unwind_234 : decode cX8_unwind 234 = .ok (.iload 7, 2) := by decide +kernel
theorem dX8_unwind_236 : decode cX8_unwind 236 = .ok (.iconst 1, 1) := by decide +kernel
theorem dX8_unwind_237 : decode cX8_unwind 237 = .ok (.isub, 1) := by decide +kernel
theorem dX8_unwind_238 : decode cX8_unwind 238 = .ok (.iaload, 1) := by decide +kernel
theorem dX8_unwind_239 : decode cX8_unwind 239 = .ok (.istore 7, 2) := by decide +kernel
theorem dX8_unwind_241 : decode cX8_unwind 241 = .ok (.goto (-141), 3) := by decide +kernel
theorem dX8_unwind_244 : decode cX8_unwind 244 = .ok (.iinc 3 1, 3) := by decide +kernel
theorem dX8_unwind_247 : decode cX8_unwind 247 = .ok (.goto (-187), 3) := by decide +kernel
theorem dX8_unwind_250 : decode cX8_unwind 250 = .ok (.return_, 1) := by decide +kernel
abbrev MX8_unwind : zT := (yX8_unwind, cX8_unwind, 11, (Option.none : Option Jvm.ClassFile.FieldType), [])
theorem plX8_unwind : zplain MX8_unwind 2 ∧ (zcodeW MX8_unwind ∈ lw_all ∧ Cond.initialized MX8_unwind.1.cls ∈ lw_all) := ⟨⟨by decide +kernel, by decide +kernel⟩, q1795, q126⟩
noncomputable def f_X8_unwind_250 (σ : zM) : Option zO :=
  some (0, ((3, 0) : zV), σ)
theorem w_X8_unwind_250 {g : zG} {lv : Nat} {out : zO} (σ : zM) {r : zO} (h : f_X8_unwind_250  σ = some r) (hk : (fun o : zO => o = out) r) : Gj g MX8_unwind (lv) 250 [] [] σ out := by
  revert h
  unfold f_X8_unwind_250
  intro h
  cases h
  have hk : (0, ((3, 0) : zV), σ) = out := hk
  subst hk
  exact gj_vret (pc := 250) dX8_unwind_250 rfl
noncomputable def f_X8_unwind_244 (x0 x2 x3 x4 : Int) (σ : zM) : Option ((Int × Int × zM) ⊕ zO) :=
  zlet (zadd x3 1) fun y1 =>
  some (.inl (y1, x4, σ))
theorem w_X8_unwind_244 {g : zG} {lv : Nat} {out : zO} (x0 x2 x3 x4 : Int) (σ : zM) {r : ((Int × Int × zM) ⊕ zO)} (h : f_X8_unwind_244 x0 x2 x3 x4 σ = some r) (hk : (zKL (fun s : Int × Int × zM => Gj g MX8_unwind (lv) 60 [(0, zr x0), (2, zi x2), (3, zi s.1), (4, zi s.2.1)] [] s.2.2 out) (fun o : zO => o = out)) r) : Gj g MX8_unwind (lv) 244 [(0, zr x0), (2, zi x2), (3, zi x3), (4, zi x4)] [] σ out := by
  revert h
  unfold f_X8_unwind_244
  refine gb_iinc (pc := 244) 2 (fun y1 => [(3, zi y1), (0, zr x0), (2, zi x2), (4, zi x4)]) dX8_unwind_244 rfl (by decide) (fun _ => rfl) (fun y1 => ?_)
  refine zst_ (gj_goto 60 (pc := 247) dX8_unwind_247 (by decide)) ?_
  refine zst_ (gj_sub [1, 2, 0, 3] rfl) ?_
  intro h
  cases h
  exact hk
noncomputable def f_X8_unwind_230 (x0 x2 x3 x4 x5 x6 x7 : Int) (σ : zM) : Option ((Int × Int × zM) ⊕ ((Int × Int × zM) ⊕ zO)) :=
  (zgf σ 806 x0).bind fun v1 =>
  (zga σ 101 v1 (zsub x7 1)).bind fun v2 =>
  some (.inl (x4, v2, σ))
theorem w_X8_unwind_230 {g : zG} {lv : Nat} {out : zO} (x0 x2 x3 x4 x5 x6 x7 : Int) (σ : zM) {r : ((Int × Int × zM) ⊕ ((Int × Int × zM) ⊕ zO))} (h : f_X8_unwind_230 x0 x2 x3 x4 x5 x6 x7 σ = some r) (hk : (zKL (fun s : Int × Int × zM => Gj g MX8_unwind (lv) 100 [(0, zr x0), (2, zi x2), (3, zi x3), (4, zi s.1), (5, zi x5), (6, zi x6), (7, zi s.2.1)] [] s.2.2 out) (zKL (fun s : Int × Int × zM => Gj g MX8_unwind (lv) 60 [(0, zr x0), (2, zi x2), (3, zi s.1), (4, zi s.2.1)] [] s.2.2 out) (fun o : zO => o = out))) r) : Gj g MX8_unwind (lv) 230 [(0, zr x0), (2, zi x2), (3, zi x3), (4, zi x4), (5, zi x5), (6, zi x6), (7, zi x7)] [] σ out := by
  revert h
  unfold f_X8_unwind_230
  refine zst_ (gj_aload_n 0 (pc := 230) dX8_unwind_230 rfl) ?_
  refine gb_get (pc := 231) fl806 dX8_unwind_231 q771 (Or.inl rfl) (fun v1 => ?_)
  refine zst_ (gj_iload 6 (pc := 234) dX8_unwind_234 rfl) ?_
  refine zst_ (gj_iconst (pc := 236) dX8_unwind_236 (by decide)) ?_
  refine zst_ (gj_isub (pc := 237) dX8_unwind_237) ?_
  refine gb_iald (pc := 238) dX8_unwind_238 (fun v2 => ?_)
  refine zst_ (gj_istore (pc := 239) (ls' := [(7, zi v2), (0, zr x0), (2, zi x2), (3, zi x3), (4, zi x4), (5, zi x5), (6, zi x6)]) dX8_unwind_239 (by decide) rfl) ?_
  refine zst_ (gj_goto 100 (pc := 241) dX8_unwind_241 (by decide)) ?_
  refine zst_ (gj_sub [1, 2, 3, 4, 5, 6, 0] rfl) ?_
  intro h
  cases h
  exact hk
noncomputable def f_X8_unwind_224 (x0 x2 x3 x4 x5 x6 x7 x9 x10 : Int) (σ : zM) : Option ((Int × Int × zM) ⊕ ((Int × Int × zM) ⊕ ((Int × Int × zM) ⊕ zO))) :=
  zlet (zadd x10 1) fun y1 =>
  some (.inl (x4, y1, σ))
theorem w_X8_unwind_224 {g : zG} {lv : Nat} {out : zO} (x0 x2 x3 x4 x5 x6 x7 x9 x10 : Int) (σ : zM) {r : ((Int × Int × zM) ⊕ ((Int × Int × zM) ⊕ ((Int × Int × zM) ⊕ zO)))} (h : f_X8_unwind_224 x0 x2 x3 x4 x5 x6 x7 x9 x10 σ = some r) (hk : (zKL (fun s : Int × Int × zM => Gj g MX8_unwind (lv) 146 [(0, zr x0), (2, zi x2), (3, zi x3), (4, zi s.1), (5, zi x5), (6, zi x6), (7, zi x7), (9, zi x9), (10, zi s.2.1)] [] s.2.2 out) (zKL (fun s : Int × Int × zM => Gj g MX8_unwind (lv) 100 [(0, zr x0), (2, zi x2), (3, zi x3), (4, zi s.1), (5, zi x5), (6, zi x6), (7, zi s.2.1)] [] s.2.2 out) (zKL (fun s : Int × Int × zM => Gj g MX8_unwind (lv) 60 [(0, zr x0), (2, zi x2), (3, zi s.1), (4, zi s.2.1)] [] s.2.2 out) (fun o : zO => o = out)))) r) : Gj g MX8_unwind (lv) 224 [(0, zr x0), (2, zi x2), (3, zi x3), (4, zi x4), (5, zi x5), (6, zi x6), (7, zi x7), (9, zi x9), (10, zi x10)] [] σ out := by
  revert h
  unfold f_X8_unwind_224
  refine gb_iinc (pc := 224) 8 (fun y1 => [(10, zi y1), (0, zr x0), (2, zi x2), (3, zi x3), (4, zi x4), (5, zi x5), (6, zi x6), (7, zi x7), (9, zi x9)]) dX8_unwind_224 rfl (by decide) (fun _ => rfl) (fun y1 => ?_)
  refine zst_ (gj_goto 146 (pc := 227) dX8_unwind_227 (by decide)) ?_
  refine zst_ (gj_sub [1, 2, 3, 4, 5, 6, 7, 8, 0] rfl) ?_
  intro h
  cases h
  exact hk
noncomputable def f_X8_unwind_146_b (x0 x2 x3 x4 x5 x6 x7 x9 x10 : Int) (σ : zM) : Option ((Int × Int × zM) ⊕ ((Int × Int × zM) ⊕ ((Int × Int × zM) ⊕ zO))) :=
  if x2 < x10 then
    (f_X8_unwind_230 x0 x2 x3 x4 x5 x6 x7 σ).map (fun r => (.inr r))
  else
    (zgf σ 804 x0).bind fun v1 =>
    (zga σ 101 v1 x5).bind fun v2 =>
    if (zor x10 v2) ≠ x6 then
      f_X8_unwind_224 x0 x2 x3 x4 x5 x6 x7 x9 x10 σ
    else
      (zgf σ 816 x0).bind fun v3 =>
      (zga σ 101 v3 (zadd x9 x10)).bind fun v4 =>
      if v4 = 30000 then
        (zgf σ 816 x0).bind fun v5 =>
        (zgf σ 816 x0).bind fun v6 =>
        (zgf σ 817 x0).bind fun v7 =>
        (zga σ 101 v7 x3).bind fun v8 =>
        (zga σ 101 v6 v8).bind fun v9 =>
        (zpa σ 101 v5 (zadd x9 x10) (zadd v9 1)).bind fun σ10 =>
        (zgf σ10 817 x0).bind fun v11 =>
        (zpa σ10 101 v11 x4 (zadd x9 x10)).bind fun σ12 =>
        zlet (zadd x4 1) fun y13 =>
        f_X8_unwind_224 x0 x2 x3 y13 x5 x6 x7 x9 x10 σ12
      else
        f_X8_unwind_224 x0 x2 x3 x4 x5 x6 x7 x9 x10 σ
noncomputable def f_X8_unwind_146 (x0 x2 x3 x4 x5 x6 x7 x9 x10 : Int) (σ : zM) : Option ((Int × Int × zM) ⊕ ((Int × Int × zM) ⊕ zO)) :=
  zloop (fun s : Int × Int × zM => f_X8_unwind_146_b x0 x2 x3 s.1 x5 x6 x7 x9 s.2.1 s.2.2) (x4, x10, σ)
theorem w_X8_unwind_146_b {g : zG} {lv : Nat} {out : zO} (x0 x2 x3 x4 x5 x6 x7 x9 x10 : Int) (σ : zM) {r : ((Int × Int × zM) ⊕ ((Int × Int × zM) ⊕ ((Int × Int × zM) ⊕ zO)))} (h : f_X8_unwind_146_b x0 x2 x3 x4 x5 x6 x7 x9 x10 σ = some r) (hk : (zKL (fun s : Int × Int × zM => Gj g MX8_unwind (lv) 146 [(0, zr x0), (2, zi x2), (3, zi x3), (4, zi s.1), (5, zi x5), (6, zi x6), (7, zi x7), (9, zi x9), (10, zi s.2.1)] [] s.2.2 out) (zKL (fun s : Int × Int × zM => Gj g MX8_unwind (lv) 100 [(0, zr x0), (2, zi x2), (3, zi x3), (4, zi s.1), (5, zi x5), (6, zi x6), (7, zi s.2.1)] [] s.2.2 out) (zKL (fun s : Int × Int × zM => Gj g MX8_unwind (lv) 60 [(0, zr x0), (2, zi x2), (3, zi s.1), (4, zi s.2.1)] [] s.2.2 out) (fun o : zO => o = out)))) r) : Gj g MX8_unwind (lv) 146 [(0, zr x0), (2, zi x2), (3, zi x3), (4, zi x4), (5, zi x5), (6, zi x6), (7, zi x7), (9, zi x9), (10, zi x10)] [] σ out := by
  revert h
  unfold f_X8_unwind_146_b
  refine zst_ (gj_iload 8 (pc := 146) dX8_unwind_146 rfl) ?_
  refine zst_ (gj_iload_n 1 (pc := 148) dX8_unwind_148 rfl) ?_
  refine gb_if (gj_icmp_gt 230 (pc := 149) dX8_unwind_149 (by decide)) ?_ ?_
  · refine zst_ (gj_sub [0, 1, 2, 3, 4, 5, 6] rfl) ?_
    intro h
    obtain ⟨r0, h0, rfl⟩ := zmE h
    exact w_X8_unwind_230 x0 x2 x3 x4 x5 x6 x7 σ h0 hk
  · refine zst_ (gj_iload 8 (pc := 152) dX8_unwind_152 rfl) ?_
    refine zst_ (gj_aload_n 0 (pc := 154) dX8_unwind_154 rfl) ?_
    refine gb_get (pc := 155) fl804 dX8_unwind_155 q769 (Or.inl rfl) (fun v1 => ?_)
    refine zst_ (gj_iload 4 (pc := 158) dX8_unwind_158 rfl) ?_
    refine gb_iald (pc := 160) dX8_unwind_160 (fun v2 => ?_)
    refine zst_ (gj_ior (pc := 161) dX8_unwind_161) ?_
    refine zst_ (gj_iload 5 (pc := 162) dX8_unwind_162 rfl) ?_
    refine gb_if (gj_icmp_ne 224 (pc := 164) dX8_unwind_164 (by decide)) ?_ ?_
    · exact fun h => w_X8_unwind_224 x0 x2 x3 x4 x5 x6 x7 x9 x10 σ h hk
    · refine zst_ (gj_aload_n 0 (pc := 167) dX8_unwind_167 rfl) ?_
      refine gb_get (pc := 168) fl816 dX8_unwind_168 q781 (Or.inl rfl) (fun v3 => ?_)
      refine zst_ (gj_iload 7 (pc := 171) dX8_unwind_171 rfl) ?_
      refine zst_ (gj_iload 8 (pc := 173) dX8_unwind_173 rfl) ?_
      refine zst_ (gj_iadd (pc := 175) dX8_unwind_175) ?_
      refine gb_iald (pc := 176) dX8_unwind_176 (fun v4 => ?_)
      refine zst_ (gj_sipush (pc := 177) dX8_unwind_177 ⟨rfl, by decide⟩) ?_
      refine gb_if (gj_icmp_eq 186 (pc := 180) dX8_unwind_180 (by decide)) ?_ ?_
      · refine zst_ (gj_aload_n 0 (pc := 186) dX8_unwind_186 rfl) ?_
        refine gb_get (pc := 187) fl816 dX8_unwind_187 q781 (Or.inl rfl) (fun v5 => ?_)
        refine zst_ (gj_iload 7 (pc := 190) dX8_unwind_190 rfl) ?_
        refine zst_ (gj_iload 8 (pc := 192) dX8_unwind_192 rfl) ?_
        refine zst_ (gj_iadd (pc := 194) dX8_unwind_194) ?_
        refine zst_ (gj_aload_n 0 (pc := 195) dX8_unwind_195 rfl) ?_
        refine gb_get (pc := 196) fl816 dX8_unwind_196 q781 (Or.inl rfl) (fun v6 => ?_)
        refine zst_ (gj_aload_n 0 (pc := 199) dX8_unwind_199 rfl) ?_
        refine gb_get (pc := 200) fl817 dX8_unwind_200 q782 (Or.inl rfl) (fun v7 => ?_)
        refine zst_ (gj_iload_n 2 (pc := 203) dX8_unwind_203 rfl) ?_
        refine gb_iald (pc := 204) dX8_unwind_204 (fun v8 => ?_)
        refine gb_iald (pc := 205) dX8_unwind_205 (fun v9 => ?_)
        refine zst_ (gj_iconst (pc := 206) dX8_unwind_206 (by decide)) ?_
        refine zst_ (gj_iadd (pc := 207) dX8_unwind_207) ?_
        refine gb_iast (pc := 208) dX8_unwind_208 (fun σ10 => ?_)
        refine zst_ (gj_aload_n 0 (pc := 209) dX8_unwind_209 rfl) ?_
        refine gb_get (pc := 210) fl817 dX8_unwind_210 q782 (Or.inl rfl) (fun v11 => ?_)
        refine zst_ (gj_iload 3 (pc := 213) dX8_unwind_213 rfl) ?_
        refine zst_ (gj_iload 7 (pc := 215) dX8_unwind_215 rfl) ?_
        refine zst_ (gj_iload 8 (pc := 217) dX8_unwind_217 rfl) ?_
        refine zst_ (gj_iadd (pc := 219) dX8_unwind_219) ?_
        refine gb_iast (pc := 220) dX8_unwind_220 (fun σ12 => ?_)
        refine gb_iinc (pc := 221) 3 (fun y13 => [(4, zi y13), (0, zr x0), (2, zi x2), (3, zi x3), (5, zi x5), (6, zi x6), (7, zi x7), (9, zi x9), (10, zi x10)]) dX8_unwind_221 rfl (by decide) (fun _ => rfl) (fun y13 => ?_)
        refine zst_ (gj_sub [1, 2, 3, 0, 4, 5, 6, 7, 8] rfl) ?_
        exact fun h => w_X8_unwind_224 x0 x2 x3 y13 x5 x6 x7 x9 x10 σ12 h hk
      · refine zst_ (gj_goto 224 (pc := 183) dX8_unwind_183 (by decide)) ?_
        exact fun h => w_X8_unwind_224 x0 x2 x3 x4 x5 x6 x7 x9 x10 σ h hk
theorem w_X8_unwind_146 {g : zG} {lv : Nat} {out : zO} (x0 x2 x3 x4 x5 x6 x7 x9 x10 : Int) (σ : zM) {r : ((Int × Int × zM) ⊕ ((Int × Int × zM) ⊕ zO))} (h : f_X8_unwind_146 x0 x2 x3 x4 x5 x6 x7 x9 x10 σ = some r) (hk : (zKL (fun s : Int × Int × zM => Gj g MX8_unwind (lv) 100 [(0, zr x0), (2, zi x2), (3, zi x3), (4, zi s.1), (5, zi x5), (6, zi x6), (7, zi s.2.1)] [] s.2.2 out) (zKL (fun s : Int × Int × zM => Gj g MX8_unwind (lv) 60 [(0, zr x0), (2, zi x2), (3, zi s.1), (4, zi s.2.1)] [] s.2.2 out) (fun o : zO => o = out))) r) : Gj g MX8_unwind (lv) 146 [(0, zr x0), (2, zi x2), (3, zi x3), (4, zi x4), (5, zi x5), (6, zi x6), (7, zi x7), (9, zi x9), (10, zi x10)] [] σ out :=
  gj_loop (P := (fun s : Int × Int × zM => Gj g MX8_unwind (lv) 146 [(0, zr x0), (2, zi x2), (3, zi x3), (4, zi s.1), (5, zi x5), (6, zi x6), (7, zi x7), (9, zi x9), (10, zi s.2.1)] [] s.2.2 out)) (fun s x hb hx => w_X8_unwind_146_b x0 x2 x3 s.1 x5 x6 x7 x9 s.2.1 s.2.2 hb hx) h hk
noncomputable def f_X8_unwind_100_b (x0 x2 x3 x4 x5 x6 x7 : Int) (σ : zM) : Option ((Int × Int × zM) ⊕ ((Int × Int × zM) ⊕ zO)) :=
  if x7 ≤ 0 then
    (f_X8_unwind_244 x0 x2 x3 x4 σ).map (fun r => (.inr r))
  else
    (zgf σ 800 x0).bind fun v1 =>
    (zgf σ 216 v1).bind fun v2 =>
    (zga σ 101 v2 (zsub x7 1)).bind fun v3 =>
    zlet ((zmul 8 v3)) fun y4 =>
    (zgf σ 803 x0).bind fun v5 =>
    (zga σ 101 v5 (zadd y4 (zrem x5 8))).bind fun v6 =>
    zlet ((zmul 8 (zadd y4 v6))) fun y7 =>
    f_X8_unwind_146 x0 x2 x3 x4 x5 x6 x7 y7 0 σ
noncomputable def f_X8_unwind_100 (x0 x2 x3 x4 x5 x6 x7 : Int) (σ : zM) : Option ((Int × Int × zM) ⊕ zO) :=
  zloop (fun s : Int × Int × zM => f_X8_unwind_100_b x0 x2 x3 s.1 x5 x6 s.2.1 s.2.2) (x4, x7, σ)
theorem w_X8_unwind_100_b {g : zG} {lv : Nat} {out : zO} (x0 x2 x3 x4 x5 x6 x7 : Int) (σ : zM) {r : ((Int × Int × zM) ⊕ ((Int × Int × zM) ⊕ zO))} (h : f_X8_unwind_100_b x0 x2 x3 x4 x5 x6 x7 σ = some r) (hk : (zKL (fun s : Int × Int × zM => Gj g MX8_unwind (lv) 100 [(0, zr x0), (2, zi x2), (3, zi x3), (4, zi s.1), (5, zi x5), (6, zi x6), (7, zi s.2.1)] [] s.2.2 out) (zKL (fun s : Int × Int × zM => Gj g MX8_unwind (lv) 60 [(0, zr x0), (2, zi x2), (3, zi s.1), (4, zi s.2.1)] [] s.2.2 out) (fun o : zO => o = out))) r) : Gj g MX8_unwind (lv) 100 [(0, zr x0), (2, zi x2), (3, zi x3), (4, zi x4), (5, zi x5), (6, zi x6), (7, zi x7)] [] σ out := by
  revert h
  unfold f_X8_unwind_100_b
  refine zst_ (gj_iload 6 (pc := 100) dX8_unwind_100 rfl) ?_
  refine gb_if (gj_if_le 244 (pc := 102) dX8_unwind_102 (by decide)) ?_ ?_
  · refine zst_ (gj_sub [0, 1, 2, 3] rfl) ?_
    intro h
    obtain ⟨r0, h0, rfl⟩ := zmE h
    exact w_X8_unwind_244 x0 x2 x3 x4 σ h0 hk
  · refine zst_ (gj_bipush (pc := 105) dX8_unwind_105 ⟨rfl, by decide⟩) ?_
    refine zst_ (gj_aload_n 0 (pc := 107) dX8_unwind_107 rfl) ?_
    refine gb_get (pc := 108) fl800 dX8_unwind_108 q765 (Or.inl rfl) (fun v1 => ?_)
    refine gb_getNe (pc := 111) fl216 dX8_unwind_111 q304 (Or.inl rfl) (fun v2 => ?_)
    refine zst_ (gj_iload 6 (pc := 114) dX8_unwind_114 rfl) ?_
    refine zst_ (gj_iconst (pc := 116) dX8_unwind_116 (by decide)) ?_
    refine zst_ (gj_isub (pc := 117) dX8_unwind_117) ?_
    refine gb_iald (pc := 118) dX8_unwind_118 (fun v3 => ?_)
    refine zst_ (gj_imul (pc := 119) dX8_unwind_119) ?_
    refine gb_let (fun y4 => ?_)
    refine zst_ (gj_istore (pc := 120) (ls' := [(8, zi y4), (0, zr x0), (2, zi x2), (3, zi x3), (4, zi x4), (5, zi x5), (6, zi x6), (7, zi x7)]) dX8_unwind_120 (by decide) rfl) ?_
    refine zst_ (gj_bipush (pc := 122) dX8_unwind_122 ⟨rfl, by decide⟩) ?_
    refine zst_ (gj_iload 0 (pc := 124) dX8_unwind_124 rfl) ?_
    refine zst_ (gj_aload_n 1 (pc := 126) dX8_unwind_126 rfl) ?_
    refine gb_get (pc := 127) fl803 dX8_unwind_127 q768 (Or.inl rfl) (fun v5 => ?_)
    refine zst_ (gj_iload 0 (pc := 130) dX8_unwind_130 rfl) ?_
    refine zst_ (gj_iload 5 (pc := 132) dX8_unwind_132 rfl) ?_
    refine zst_ (gj_bipush (pc := 134) dX8_unwind_134 ⟨rfl, by decide⟩) ?_
    refine zst_ (gj_irem (pc := 136) dX8_unwind_136 (by decide)) ?_
    refine zst_ (gj_iadd (pc := 137) dX8_unwind_137) ?_
    refine gb_iald (pc := 138) dX8_unwind_138 (fun v6 => ?_)
    refine zst_ (gj_iadd (pc := 139) dX8_unwind_139) ?_
    refine zst_ (gj_imul (pc := 140) dX8_unwind_140) ?_
    refine gb_let (fun y7 => ?_)
    refine zst_ (gj_istore (pc := 141) (ls' := [(9, zi y7), (8, zi y4), (0, zr x0), (2, zi x2), (3, zi x3), (4, zi x4), (5, zi x5), (6, zi x6), (7, zi x7)]) dX8_unwind_141 (by decide) rfl) ?_
    refine zst_ (gj_iconst (pc := 143) dX8_unwind_143 (by decide)) ?_
    refine zst_ (gj_istore (pc := 144) (ls' := [(10, zi 0), (9, zi y7), (8, zi y4), (0, zr x0), (2, zi x2), (3, zi x3), (4, zi x4), (5, zi x5), (6, zi x6), (7, zi x7)]) dX8_unwind_144 (by decide) rfl) ?_
    refine zst_ (gj_sub [3, 4, 5, 6, 7, 8, 9, 1, 0] rfl) ?_
    exact fun h => w_X8_unwind_146 x0 x2 x3 x4 x5 x6 x7 y7 0 σ h hk
theorem w_X8_unwind_100 {g : zG} {lv : Nat} {out : zO} (x0 x2 x3 x4 x5 x6 x7 : Int) (σ : zM) {r : ((Int × Int × zM) ⊕ zO)} (h : f_X8_unwind_100 x0 x2 x3 x4 x5 x6 x7 σ = some r) (hk : (zKL (fun s : Int × Int × zM => Gj g MX8_unwind (lv) 60 [(0, zr x0), (2, zi x2), (3, zi s.1), (4, zi s.2.1)] [] s.2.2 out) (fun o : zO => o = out)) r) : Gj g MX8_unwind (lv) 100 [(0, zr x0), (2, zi x2), (3, zi x3), (4, zi x4), (5, zi x5), (6, zi x6), (7, zi x7)] [] σ out :=
  gj_loop (P := (fun s : Int × Int × zM => Gj g MX8_unwind (lv) 100 [(0, zr x0), (2, zi x2), (3, zi x3), (4, zi s.1), (5, zi x5), (6, zi x6), (7, zi s.2.1)] [] s.2.2 out)) (fun s x hb hx => w_X8_unwind_100_b x0 x2 x3 s.1 x5 x6 s.2.1 s.2.2 hb hx) h hk
noncomputable def f_X8_unwind_60_b (x0 x2 x3 x4 : Int) (σ : zM) : Option ((Int × Int × zM) ⊕ zO) :=
  if x4 ≤ x3 then
    (f_X8_unwind_250 σ).map (fun r => (.inr r))
  else
    (zgf σ 817 x0).bind fun v1 =>
    (zga σ 101 v1 x3).bind fun v2 =>
    zlet ((zdiv v2 8)) fun y3 =>
    (zgf σ 817 x0).bind fun v4 =>
    (zga σ 101 v4 x3).bind fun v5 =>
    zlet ((zrem v5 8)) fun y6 =>
    (zgf σ 805 x0).bind fun v7 =>
    (zga σ 101 v7 (zdiv y3 8)).bind fun v8 =>
    f_X8_unwind_100 x0 x2 x3 x4 y3 y6 v8 σ
noncomputable def f_X8_unwind_60 (x0 x2 x3 x4 : Int) (σ : zM) : Option zO :=
  zloop (fun s : Int × Int × zM => f_X8_unwind_60_b x0 x2 s.1 s.2.1 s.2.2) (x3, x4, σ)
theorem w_X8_unwind_60_b {g : zG} {lv : Nat} {out : zO} (x0 x2 x3 x4 : Int) (σ : zM) {r : ((Int × Int × zM) ⊕ zO)} (h : f_X8_unwind_60_b x0 x2 x3 x4 σ = some r) (hk : (zKL (fun s : Int × Int × zM => Gj g MX8_unwind (lv) 60 [(0, zr x0), (2, zi x2), (3, zi s.1), (4, zi s.2.1)] [] s.2.2 out) (fun o : zO => o = out)) r) : Gj g MX8_unwind (lv) 60 [(0, zr x0), (2, zi x2), (3, zi x3), (4, zi x4)] [] σ out := by
  revert h
  unfold f_X8_unwind_60_b
  refine zst_ (gj_iload_n 2 (pc := 60) dX8_unwind_60 rfl) ?_
  refine zst_ (gj_iload 3 (pc := 61) dX8_unwind_61 rfl) ?_
  refine gb_if (gj_icmp_ge 250 (pc := 63) dX8_unwind_63 (by decide)) ?_ ?_
  · refine zst_ (gj_sub [] rfl) ?_
    intro h
    obtain ⟨r0, h0, rfl⟩ := zmE h
    exact w_X8_unwind_250 σ h0 hk
  · refine zst_ (gj_aload_n 0 (pc := 66) dX8_unwind_66 rfl) ?_
    refine gb_get (pc := 67) fl817 dX8_unwind_67 q782 (Or.inl rfl) (fun v1 => ?_)
    refine zst_ (gj_iload_n 2 (pc := 70) dX8_unwind_70 rfl) ?_
    refine gb_iald (pc := 71) dX8_unwind_71 (fun v2 => ?_)
    refine zst_ (gj_bipush (pc := 72) dX8_unwind_72 ⟨rfl, by decide⟩) ?_
    refine zst_ (gj_idiv (pc := 74) dX8_unwind_74 (by decide)) ?_
    refine gb_let (fun y3 => ?_)
    refine zst_ (gj_istore (pc := 75) (ls' := [(5, zi y3), (0, zr x0), (2, zi x2), (3, zi x3), (4, zi x4)]) dX8_unwind_75 (by decide) rfl) ?_
    refine zst_ (gj_aload_n 1 (pc := 77) dX8_unwind_77 rfl) ?_
    refine gb_get (pc := 78) fl817 dX8_unwind_78 q782 (Or.inl rfl) (fun v4 => ?_)
    refine zst_ (gj_iload_n 3 (pc := 81) dX8_unwind_81 rfl) ?_
    refine gb_iald (pc := 82) dX8_unwind_82 (fun v5 => ?_)
    refine zst_ (gj_bipush (pc := 83) dX8_unwind_83 ⟨rfl, by decide⟩) ?_
    refine zst_ (gj_irem (pc := 85) dX8_unwind_85 (by decide)) ?_
    refine gb_let (fun y6 => ?_)
    refine zst_ (gj_istore (pc := 86) (ls' := [(6, zi y6), (5, zi y3), (0, zr x0), (2, zi x2), (3, zi x3), (4, zi x4)]) dX8_unwind_86 (by decide) rfl) ?_
    refine zst_ (gj_aload_n 2 (pc := 88) dX8_unwind_88 rfl) ?_
    refine gb_get (pc := 89) fl805 dX8_unwind_89 q770 (Or.inl rfl) (fun v7 => ?_)
    refine zst_ (gj_iload 1 (pc := 92) dX8_unwind_92 rfl) ?_
    refine zst_ (gj_bipush (pc := 94) dX8_unwind_94 ⟨rfl, by decide⟩) ?_
    refine zst_ (gj_idiv (pc := 96) dX8_unwind_96 (by decide)) ?_
    refine gb_iald (pc := 97) dX8_unwind_97 (fun v8 => ?_)
    refine zst_ (gj_istore (pc := 98) (ls' := [(7, zi v8), (6, zi y6), (5, zi y3), (0, zr x0), (2, zi x2), (3, zi x3), (4, zi x4)]) dX8_unwind_98 (by decide) rfl) ?_
    refine zst_ (gj_sub [3, 4, 5, 6, 2, 1, 0] rfl) ?_
    exact fun h => w_X8_unwind_100 x0 x2 x3 x4 y3 y6 v8 σ h hk
theorem w_X8_unwind_60 {g : zG} {lv : Nat} {out : zO} (x0 x2 x3 x4 : Int) (σ : zM) {r : zO} (h : f_X8_unwind_60 x0 x2 x3 x4 σ = some r) (hk : (fun o : zO => o = out) r) : Gj g MX8_unwind (lv) 60 [(0, zr x0), (2, zi x2), (3, zi x3), (4, zi x4)] [] σ out :=
  gj_loop (P := (fun s : Int × Int × zM => Gj g MX8_unwind (lv) 60 [(0, zr x0), (2, zi x2), (3, zi s.1), (4, zi s.2.1)] [] s.2.2 out)) (fun s x hb hx => w_X8_unwind_60_b x0 x2 s.1 s.2.1 s.2.2 hb hx) h hk
noncomputable def f_X8_unwind_31 (x0 x1 x2 : Int) (σ : zM) : Option zO :=
  (zgf σ 817 x0).bind fun v1 =>
  (zpa σ 101 v1 0 (zadd (zmul 8 x1) x2)).bind fun σ2 =>
  (zgf σ2 816 x0).bind fun v3 =>
  (zgf σ2 817 x0).bind fun v4 =>
  (zga σ2 101 v4 0).bind fun v5 =>
  (zpa σ2 101 v3 v5 0).bind fun σ6 =>
  f_X8_unwind_60 x0 x2 0 1 σ6
theorem w_X8_unwind_31 {g : zG} {lv : Nat} {out : zO} (x0 x1 x2 : Int) (σ : zM) {r : zO} (h : f_X8_unwind_31 x0 x1 x2 σ = some r) (hk : (fun o : zO => o = out) r) : Gj g MX8_unwind (lv) 31 [(0, zr x0), (1, zi x1), (2, zi x2)] [] σ out := by
  revert h
  unfold f_X8_unwind_31
  refine zst_ (gj_iconst (pc := 31) dX8_unwind_31 (by decide)) ?_
  refine zst_ (gj_istore_n (pc := 32) (ls' := [(3, zi 0), (0, zr x0), (1, zi x1), (2, zi x2)]) dX8_unwind_32 (by decide) rfl) ?_
  refine zst_ (gj_iconst (pc := 33) dX8_unwind_33 (by decide)) ?_
  refine zst_ (gj_istore (pc := 34) (ls' := [(4, zi 1), (3, zi 0), (0, zr x0), (1, zi x1), (2, zi x2)]) dX8_unwind_34 (by decide) rfl) ?_
  refine zst_ (gj_aload_n 2 (pc := 36) dX8_unwind_36 rfl) ?_
  refine gb_get (pc := 37) fl817 dX8_unwind_37 q782 (Or.inl rfl) (fun v1 => ?_)
  refine zst_ (gj_iconst (pc := 40) dX8_unwind_40 (by decide)) ?_
  refine zst_ (gj_bipush (pc := 41) dX8_unwind_41 ⟨rfl, by decide⟩) ?_
  refine zst_ (gj_iload_n 3 (pc := 43) dX8_unwind_43 rfl) ?_
  refine zst_ (gj_imul (pc := 44) dX8_unwind_44) ?_
  refine zst_ (gj_iload_n 4 (pc := 45) dX8_unwind_45 rfl) ?_
  refine zst_ (gj_iadd (pc := 46) dX8_unwind_46) ?_
  refine gb_iast (pc := 47) dX8_unwind_47 (fun σ2 => ?_)
  refine zst_ (gj_aload_n 2 (pc := 48) dX8_unwind_48 rfl) ?_
  refine gb_get (pc := 49) fl816 dX8_unwind_49 q781 (Or.inl rfl) (fun v3 => ?_)
  refine zst_ (gj_aload_n 2 (pc := 52) dX8_unwind_52 rfl) ?_
  refine gb_get (pc := 53) fl817 dX8_unwind_53 q782 (Or.inl rfl) (fun v4 => ?_)
  refine zst_ (gj_iconst (pc := 56) dX8_unwind_56 (by decide)) ?_
  refine gb_iald (pc := 57) dX8_unwind_57 (fun v5 => ?_)
  refine zst_ (gj_iconst (pc := 58) dX8_unwind_58 (by decide)) ?_
  refine gb_iast (pc := 59) dX8_unwind_59 (fun σ6 => ?_)
  refine zst_ (gj_sub [2, 4, 1, 0] rfl) ?_
  exact fun h => w_X8_unwind_60 x0 x2 0 1 σ6 h hk
noncomputable def f_X8_unwind_2_b (x0 x1 x2 x3 : Int) (σ : zM) : Option ((Int × zM) ⊕ zO) :=
  (zgf σ 800 x0).bind fun v1 =>
  (zgf σ 220 v1).bind fun v2 =>
  if (zmul 64 v2) ≤ x3 then
    (f_X8_unwind_31 x0 x1 x2 σ).map (fun r => (.inr r))
  else
    (zgf σ 816 x0).bind fun v3 =>
    (zpa σ 101 v3 x3 30000).bind fun σ4 =>
    zlet (zadd x3 1) fun y5 =>
    some (.inl (y5, σ4))
noncomputable def f_X8_unwind_2 (x0 x1 x2 x3 : Int) (σ : zM) : Option zO :=
  zloop (fun s : Int × zM => f_X8_unwind_2_b x0 x1 x2 s.1 s.2) (x3, σ)
theorem w_X8_unwind_2_b {g : zG} {lv : Nat} {out : zO} (x0 x1 x2 x3 : Int) (σ : zM) {r : ((Int × zM) ⊕ zO)} (h : f_X8_unwind_2_b x0 x1 x2 x3 σ = some r) (hk : (zKL (fun s : Int × zM => Gj g MX8_unwind (lv) 2 [(0, zr x0), (1, zi x1), (2, zi x2), (3, zi s.1)] [] s.2 out) (fun o : zO => o = out)) r) : Gj g MX8_unwind (lv) 2 [(0, zr x0), (1, zi x1), (2, zi x2), (3, zi x3)] [] σ out := by
  revert h
  unfold f_X8_unwind_2_b
  refine zst_ (gj_iload_n 3 (pc := 2) dX8_unwind_2 rfl) ?_
  refine zst_ (gj_bipush (pc := 3) dX8_unwind_3 ⟨rfl, by decide⟩) ?_
  refine zst_ (gj_aload_n 0 (pc := 5) dX8_unwind_5 rfl) ?_
  refine gb_get (pc := 6) fl800 dX8_unwind_6 q765 (Or.inl rfl) (fun v1 => ?_)
  refine gb_getNe (pc := 9) fl220 dX8_unwind_9 q313 (Or.inl rfl) (fun v2 => ?_)
  refine zst_ (gj_imul (pc := 12) dX8_unwind_12) ?_
  refine gb_if (gj_icmp_ge 31 (pc := 13) dX8_unwind_13 (by decide)) ?_ ?_
  · refine zst_ (gj_sub [0, 1, 2] rfl) ?_
    intro h
    obtain ⟨r0, h0, rfl⟩ := zmE h
    exact w_X8_unwind_31 x0 x1 x2 σ h0 hk
  · refine zst_ (gj_aload_n 0 (pc := 16) dX8_unwind_16 rfl) ?_
    refine gb_get (pc := 17) fl816 dX8_unwind_17 q781 (Or.inl rfl) (fun v3 => ?_)
    refine zst_ (gj_iload_n 3 (pc := 20) dX8_unwind_20 rfl) ?_
    refine zst_ (gj_sipush (pc := 21) dX8_unwind_21 ⟨rfl, by decide⟩) ?_
    refine gb_iast (pc := 24) dX8_unwind_24 (fun σ4 => ?_)
    refine gb_iinc (pc := 25) 3 (fun y5 => [(3, zi y5), (0, zr x0), (1, zi x1), (2, zi x2)]) dX8_unwind_25 rfl (by decide) (fun _ => rfl) (fun y5 => ?_)
    refine zst_ (gj_goto 2 (pc := 28) dX8_unwind_28 (by decide)) ?_
    refine zst_ (gj_sub [1, 2, 3, 0] rfl) ?_
    intro h
    cases h
    exact hk
theorem w_X8_unwind_2 {g : zG} {lv : Nat} {out : zO} (x0 x1 x2 x3 : Int) (σ : zM) {r : zO} (h : f_X8_unwind_2 x0 x1 x2 x3 σ = some r) (hk : (fun o : zO => o = out) r) : Gj g MX8_unwind (lv) 2 [(0, zr x0), (1, zi x1), (2, zi x2), (3, zi x3)] [] σ out :=
  gj_loop (P := (fun s : Int × zM => Gj g MX8_unwind (lv) 2 [(0, zr x0), (1, zi x1), (2, zi x2), (3, zi s.1)] [] s.2 out)) (fun s x hb hx => w_X8_unwind_2_b x0 x1 x2 s.1 s.2 hb hx) h hk
noncomputable def f_X8_unwind (x0 x1 x2 : Int) (σ : zM) : Option zO :=
  f_X8_unwind_2 x0 x1 x2 0 σ
theorem c_X8_unwind {g : zG} {lv : Nat} {x0 x1 x2 : Int} {σ : zM} {out : zO} (h : f_X8_unwind x0 x1 x2 σ = some out) : Cj g (lv) MX8_unwind [zr x0, zi x1, zi x2] σ out := by
  refine cj_go (ls := [(0, zr x0), (1, zi x1), (2, zi x2)]) (by decide) (Nat.le_of_ble_eq_true rfl) rfl (zgen h (fun r hk => ?_))
  unfold f_X8_unwind
  refine zst_ (gj_iconst (pc := 0) dX8_unwind_0 (by decide)) ?_
  refine zst_ (gj_istore_n (pc := 1) (ls' := [(3, zi 0), (0, zr x0), (1, zi x1), (2, zi x2)]) dX8_unwind_1 (by decide) rfl) ?_
  refine zst_ (gj_sub [1, 2, 3, 0] rfl) ?_
  exact fun h => w_X8_unwind_2 x0 x1 x2 0 σ h hk

set_option maxRecDepth 100000
theorem q2444 : (Jvm.Cond.code ({ cls := "LassoFinderModel", name := "count", desc := "(I)I" } : Jvm.MethodName) prog_22_method_79_code (2 : Nat) (Option.some Jvm.ClassFile.FieldType.int)) ∈ lw_all := lw_g (lw_at lw_m10 184 rfl) rfl
abbrev cX9_count : ByteArray := prog_22_method_79_code
def yX9_count : MethodName := ⟨RX9, "count", "(I)I"⟩
theorem dX9_count_0 : decode cX9_count 0 = .ok (.aload_n 0, 1) := by decide +kernel
theorem dX9_count_1 : decode cX9_count 1 = .ok (.iconst 0, 1) := by decide +kernel
theorem dX9_count_2 : decode cX9_count 2 = .ok (.putfield 193, 3) := by decide +kernel
theorem dX9_count_5 : decode cX9_count 5 = .ok (.iload_n 1, 1) := by decide +kernel
theorem dX9_count_6 : decode cX9_count 6 = .ok (.iconst 0, 1) := by decide +kernel
theorem dX9_count_7 : decode cX9_count 7 = .ok (.iconst 3, 1) := by decide +kernel
theorem dX9_count_8 : decode cX9_count 8 = .ok (.invokestatic 196, 3) := by decide +kernel
theorem dX9_count_11 : decode cX9_count 11 = .ok (.ifCond .ne 5, 3) := by decide +kernel
theorem dX9_count_14 : decode cX9_count 14 = .ok (.iconst (-1), 1) := by decide +kernel
theorem dX9_count_15 : decode cX9_count 15 = .ok (.ireturn, 1) := by decide +kernel
theorem dX9_count_16 : decode cX9_count 16 = .ok (.aload_n 0, 1) := by decide +kernel
theorem dX9_count_17 : decode cX9_count 17 = .ok (.getfield 361, 3) := by decide +kernel
theorem dX9_count_20 : decode cX9_count 20 = .ok (.ifCond .ne 7, 3) := by decide +kernel
theorem dX9_count_23 : decode cX9_count 23 = .ok (.iconst 0, 1) := by decide +kernel
theorem dX9_count_24 : decode cX9_count 24 = .ok (.goto 42, 3) := by decide +kernel
theorem dX9_count_27 : decode cX9_count 27 = .ok (.iload_n 1, 1) := by decide +kernel
theorem dX9_count_28 : decode cX9_count 28 = .ok (.ifCond .ne 10, 3) := by decide +kernel
theorem dX9_count_31 : decode cX9_count 31 = .ok (.aload_n 0, 1) := by decide +kernel
theorem dX9_count_32 : decode cX9_count 32 = .ok (.getfield 345, 3) := by decide +kernel
theorem dX9_count_35 : decode cX9_count 35 = .ok (.goto 31, 3) := by decide +kernel
theorem dX9_count_38 : decode cX9_count 38 = .ok (.iload_n 1, 1) := by decide +kernel
theorem dX9_count_39 : decode cX9_count 39 = .ok (.iconst 1, 1) := by decide +kernel
theorem dX9_count_40 : decode cX9_count 40 = .ok (.if_icmp .ne 10, 3) := by decide +kernel
theorem dX9_count_43 : decode cX9_count 43 = .ok (.aload_n 0, 1) := by decide +kernel
theorem dX9_count_44 : decode cX9_count 44 = .ok (.getfield 327, 3) := by decide +kernel
theorem dX9_count_47 : decode cX9_count 47 = .ok (.goto 19, 3) := by decide +kernel
theorem dX9_count_50 : decode cX9_count 50 = .ok (.iload_n 1, 1) := by decide +kernel
theorem dX9_count_51 : decode cX9_count 51 = .ok (.iconst 2, 1) := by decide +kernel
theorem dX9_count_52 : decode cX9_count 52 = .ok (.if_icmp .ne 10, 3) := by decide +kernel
theorem dX9_count_55 : decode cX9_count 55 = .ok (.aload_n 0, 1) := by decide +kernel
theorem dX9_count_56 : decode cX9_count 56 = .ok (.getfield 257, 3) := by decide +kernel
theorem dX9_count_59 : decode cX9_count 59 = .ok (.goto 7, 3) := by decide +kernel
theorem dX9_count_62 : decode cX9_count 62 = .ok (.aload_n 0, 1) := by decide +kernel
theorem dX9_count_63 : decode cX9_count 63 = .ok (.getfield 254, 3) := by decide +kernel
theorem dX9_count_66 : decode cX9_count 66 = .ok (.ireturn, 1) := by decide +kernel
abbrev MX9_count : zT := (yX9_count, cX9_count, 2, (Option.some Jvm.ClassFile.FieldType.int), [])
theorem plX9_count : zplain MX9_count 1 ∧ (zcodeW MX9_count ∈ lw_all ∧ Cond.initialized MX9_count.1.cls ∈ lw_all) := ⟨⟨by decide +kernel, by decide +kernel⟩, q2444, q127⟩
noncomputable def f_X9_count_66 (t0 : Int) (σ : zM) : Option zO :=
  some (0, zi t0, σ)
theorem w_X9_count_66 {g : zG} {lv : Nat} {out : zO} (t0 : Int) (σ : zM) {r : zO} (h : f_X9_count_66 t0 σ = some r) (hk : (fun o : zO => o = out) r) : Gj g MX9_count (lv + 1) 66 [] [zi t0] σ out := by
  revert h
  unfold f_X9_count_66
  intro h
  cases h
  have hk : (0, zi t0, σ) = out := hk
  subst hk
  exact gj_ret (pc := 66) (t := .int) dX9_count_66 rfl ⟨rfl, rfl⟩ (fun h => h)
noncomputable def f_X9_count (x0 x1 : Int) (σ : zM) : Option zO :=
  (zpf σ 900 x0 0).bind fun σ1 =>
  zci (f_X9_in x1 0 3 σ1) fun v2 σ3 =>
  if v2 ≠ 0 then
    (zgf σ3 906 x0).bind fun v4 =>
    if v4 ≠ 0 then
      if x1 ≠ 0 then
        if x1 ≠ 1 then
          if x1 ≠ 2 then
            (zgf σ3 930 x0).bind fun v5 =>
            f_X9_count_66 v5 σ3
          else
            (zgf σ3 927 x0).bind fun v6 =>
            f_X9_count_66 v6 σ3
        else
          (zgf σ3 945 x0).bind fun v7 =>
          f_X9_count_66 v7 σ3
      else
        (zgf σ3 944 x0).bind fun v8 =>
        f_X9_count_66 v8 σ3
    else
      f_X9_count_66 0 σ3
  else
    some (0, zi (-1), σ3)
theorem c_X9_count {g : zG} {lv : Nat} {x0 x1 : Int} {σ : zM} {out : zO} (h : f_X9_count x0 x1 σ = some out) : Cj g (lv + 1) MX9_count [zr x0, zi x1] σ out := by
  refine cj_go (ls := [(0, zr x0), (1, zi x1)]) (by decide) (Nat.le_of_ble_eq_true rfl) rfl (zgen h (fun r hk => ?_))
  unfold f_X9_count
  refine zst_ (gj_aload_n 0 (pc := 0) dX9_count_0 rfl) ?_
  refine zst_ (gj_iconst (pc := 1) dX9_count_1 (by decide)) ?_
  refine gb_put (pc := 2) fl900 fr900 dX9_count_2 q1882 (Or.inl rfl) (fun σ1 => ?_)
  refine zst_ (gj_iload_n 1 (pc := 5) dX9_count_5 rfl) ?_
  refine zst_ (gj_iconst (pc := 6) dX9_count_6 (by decide)) ?_
  refine zst_ (gj_iconst (pc := 7) dX9_count_7 (by decide)) ?_
  refine gb_callI (pc := 8) (as := [zi x1, zi 0, zi 3]) (rest := []) (zCl.of (zLk_S (M := MX9_count) plX9_in.1 rfl dX9_count_8 q2143 q2144 q127 q2145) plX9_in (Nat.le_of_ble_eq_true rfl) (fun h => c_X9_in h)) (fun v2 σ3 => ?_)
  refine gb_if (gj_if_ne 16 (pc := 11) dX9_count_11 (by decide)) ?_ ?_
  · refine zst_ (gj_aload_n 0 (pc := 16) dX9_count_16 rfl) ?_
    refine gb_get (pc := 17) fl906 dX9_count_17 q1888 (Or.inl rfl) (fun v4 => ?_)
    refine gb_if (gj_if_ne 27 (pc := 20) dX9_count_20 (by decide)) ?_ ?_
    · refine zst_ (gj_iload_n 1 (pc := 27) dX9_count_27 rfl) ?_
      refine gb_if (gj_if_ne 38 (pc := 28) dX9_count_28 (by decide)) ?_ ?_
      · refine zst_ (gj_iload_n 1 (pc := 38) dX9_count_38 rfl) ?_
        refine zst_ (gj_iconst (pc := 39) dX9_count_39 (by decide)) ?_
        refine gb_if (gj_icmp_ne 50 (pc := 40) dX9_count_40 (by decide)) ?_ ?_
        · refine zst_ (gj_iload_n 1 (pc := 50) dX9_count_50 rfl) ?_
          refine zst_ (gj_iconst (pc := 51) dX9_count_51 (by decide)) ?_
          refine gb_if (gj_icmp_ne 62 (pc := 52) dX9_count_52 (by decide)) ?_ ?_
          · refine zst_ (gj_aload_n 0 (pc := 62) dX9_count_62 rfl) ?_
            refine gb_get (pc := 63) fl930 dX9_count_63 q1912 (Or.inl rfl) (fun v5 => ?_)
            refine zst_ (gj_sub [] rfl) ?_
            exact fun h => w_X9_count_66 v5 σ3 h hk
          · refine zst_ (gj_aload_n 0 (pc := 55) dX9_count_55 rfl) ?_
            refine gb_get (pc := 56) fl927 dX9_count_56 q1909 (Or.inl rfl) (fun v6 => ?_)
            refine zst_ (gj_goto 66 (pc := 59) dX9_count_59 (by decide)) ?_
            refine zst_ (gj_sub [] rfl) ?_
            exact fun h => w_X9_count_66 v6 σ3 h hk
        · refine zst_ (gj_aload_n 0 (pc := 43) dX9_count_43 rfl) ?_
          refine gb_get (pc := 44) fl945 dX9_count_44 q1927 (Or.inl rfl) (fun v7 => ?_)
          refine zst_ (gj_goto 66 (pc := 47) dX9_count_47 (by decide)) ?_
          refine zst_ (gj_sub [] rfl) ?_
          exact fun h => w_X9_count_66 v7 σ3 h hk
      · refine zst_ (gj_aload_n 0 (pc := 31) dX9_count_31 rfl) ?_
        refine gb_get (pc := 32) fl944 dX9_count_32 q1926 (Or.inl rfl) (fun v8 => ?_)
        refine zst_ (gj_goto 66 (pc := 35) dX9_count_35 (by decide)) ?_
        refine zst_ (gj_sub [] rfl) ?_
        exact fun h => w_X9_count_66 v8 σ3 h hk
    · refine zst_ (gj_iconst (pc := 23) dX9_count_23 (by decide)) ?_
      refine zst_ (gj_goto 66 (pc := 24) dX9_count_24 (by decide)) ?_
      refine zst_ (gj_sub [] rfl) ?_
      exact fun h => w_X9_count_66 0 σ3 h hk
  · refine zst_ (gj_iconst (pc := 14) dX9_count_14 (by decide)) ?_
    intro h
    cases h
    have hk : (0, zi (-1), σ3) = out := hk
    subst hk
    exact gj_ret (pc := 15) (t := .int) dX9_count_15 rfl ⟨rfl, rfl⟩ (fun h => h)

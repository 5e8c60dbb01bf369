set_option maxRecDepth 100000
theorem q686 : (Jvm.Cond.fieldLink "LassoFinder$ModelReader" (14 : Nat) "LassoFinder$ModelReader" "pool" "Ljava/util/ArrayList;") ∈ lw_all := lw_g (lw_at lw_m3 106 rfl) rfl
theorem q687 : (Jvm.Cond.fieldLink "LassoFinder$ModelReader" (20 : Nat) "LassoFinder$ModelReader" "used" "I") ∈ lw_all := lw_g (lw_at lw_m3 107 rfl) rfl
theorem q1143 : (Jvm.Cond.code ({ cls := "LassoFinder$ModelReader", name := "fresh", desc := "(LLassoFinder$Kind;LLassoFinder$Statement;)LLassoFinder$Statement;" } : Jvm.MethodName) prog_10_method_2_code (4 : Nat) (Option.some (Jvm.ClassFile.FieldType.object "LassoFinder$Statement"))) ∈ lw_all := lw_g (lw_at lw_m5 83 rfl) rfl
theorem q1144 : (Jvm.Cond.methodLink "LassoFinder$ModelReader" (24 : Nat) ({ cls := "java/util/ArrayList", name := "size", desc := "()I" } : Jvm.MethodName)) ∈ lw_all := lw_g (lw_at lw_m5 84 rfl) rfl
theorem q1145 : (Jvm.Cond.instanceMethod ({ cls := "java/util/ArrayList", name := "size", desc := "()I" } : Jvm.MethodName)) ∈ lw_all := lw_g (lw_at lw_m5 85 rfl) rfl
theorem q1146 : (Jvm.Cond.selects "java/util/ArrayList" ({ cls := "java/util/ArrayList", name := "size", desc := "()I" } : Jvm.MethodName) ({ cls := "java/util/ArrayList", name := "size", desc := "()I" } : Jvm.MethodName)) ∈ lw_all := lw_g (lw_at lw_m5 86 rfl) rfl
theorem q1148 : (Jvm.Cond.classLink "LassoFinder$ModelReader" (28 : Nat) "LassoFinder$Statement") ∈ lw_all := lw_g (lw_at lw_m5 88 rfl) rfl
theorem q1149 : (Jvm.Cond.instantiable "LassoFinder$Statement" (12 : Nat)) ∈ lw_all := lw_g (lw_at lw_m5 89 rfl) rfl
theorem q1150 : (Jvm.Cond.methodLinkNest "LassoFinder$ModelReader" (30 : Nat) ({ cls := "LassoFinder$Statement", name := "<init>", desc := "()V" } : Jvm.MethodName) "LassoFinder") ∈ lw_tbl := lw_at lw_m5 90 rfl
theorem q1151 : (Jvm.Cond.instanceMethod ({ cls := "LassoFinder$Statement", name := "<init>", desc := "()V" } : Jvm.MethodName)) ∈ lw_all := lw_g (lw_at lw_m5 91 rfl) rfl
theorem q1207 : (Jvm.Cond.methodLink "LassoFinder$ModelReader" (33 : Nat) ({ cls := "java/util/ArrayList", name := "add", desc := "(Ljava/lang/Object;)Z" } : Jvm.MethodName)) ∈ lw_all := lw_g (lw_at lw_m5 147 rfl) rfl
theorem q1208 : (Jvm.Cond.instanceMethod ({ cls := "java/util/ArrayList", name := "add", desc := "(Ljava/lang/Object;)Z" } : Jvm.MethodName)) ∈ lw_all := lw_g (lw_at lw_m5 148 rfl) rfl
theorem q1209 : (Jvm.Cond.selects "java/util/ArrayList" ({ cls := "java/util/ArrayList", name := "add", desc := "(Ljava/lang/Object;)Z" } : Jvm.MethodName) ({ cls := "java/util/ArrayList", name := "add", desc := "(Ljava/lang/Object;)Z" } : Jvm.MethodName)) ∈ lw_all := lw_g (lw_at lw_m5 149 rfl) rfl
theorem q1266 : (Jvm.Cond.methodLink "LassoFinder$ModelReader" (37 : Nat) ({ cls := "java/util/ArrayList", name := "get", desc := "(I)Ljava/lang/Object;" } : Jvm.MethodName)) ∈ lw_all := lw_g (lw_at lw_m5 206 rfl) rfl
theorem q1267 : (Jvm.Cond.instanceMethod ({ cls := "java/util/ArrayList", name := "get", desc := "(I)Ljava/lang/Object;" } : Jvm.MethodName)) ∈ lw_all := lw_g (lw_at lw_m5 207 rfl) rfl
theorem q1268 : (Jvm.Cond.selects "java/util/ArrayList" ({ cls := "java/util/ArrayList", name := "get", desc := "(I)Ljava/lang/Object;" } : Jvm.MethodName) ({ cls := "java/util/ArrayList", name := "get", desc := "(I)Ljava/lang/Object;" } : Jvm.MethodName)) ∈ lw_all := lw_g (lw_at lw_m5 208 rfl) rfl
theorem q1278 : (Jvm.Cond.methodLink "LassoFinder$ModelReader" (44 : Nat) ({ cls := "LassoFinder$Statement", name := "begin", desc := "(LLassoFinder$Kind;ILLassoFinder$Statement;)V" } : Jvm.MethodName)) ∈ lw_all := lw_g (lw_at lw_m5 218 rfl) rfl
theorem q1279 : (Jvm.Cond.instanceMethod ({ cls := "LassoFinder$Statement", name := "begin", desc := "(LLassoFinder$Kind;ILLassoFinder$Statement;)V" } : Jvm.MethodName)) ∈ lw_all := lw_g (lw_at lw_m5 219 rfl) rfl
theorem q1280 : (Jvm.Cond.selects "LassoFinder$Statement" ({ cls := "LassoFinder$Statement", name := "begin", desc := "(LLassoFinder$Kind;ILLassoFinder$Statement;)V" } : Jvm.MethodName) ({ cls := "LassoFinder$Statement", name := "begin", desc := "(LLassoFinder$Kind;ILLassoFinder$Statement;)V" } : Jvm.MethodName)) ∈ lw_all := lw_g (lw_at lw_m5 220 rfl) rfl
theorem fl605 : zfl 605 2 "LassoFinder$ModelReader" "pool" "Ljava/util/ArrayList;" true := ⟨rfl, rfl, rfl⟩
theorem fr605 {g : zG} {v : Int} : zok g (2, v) → zokt g (zft 605) v := fun h => h
theorem fl606 : zfl 606 0 "LassoFinder$ModelReader" "used" "I" false := ⟨rfl, rfl, rfl⟩
theorem fr606 {g : zG} {v : Int} : zok g (0, v) → zokt g (zft 606) v := fun h => h
abbrev cX6_fresh : ByteArray := prog_10_method_2_code
def yX6_fresh : MethodName := ⟨RX6, "fresh", "(LLassoFinder$Kind;LLassoFinder$Statement;)LLassoFinder$Statement;"⟩
theorem dX6_fresh_0 : decode cX6_fresh 0 = .ok (.aload_n 0, 1) := by decide +kernel
theorem dX6_fresh_1 : decode cX6_fresh 1 = .ok (.getfield 20, 3) := by decide +kernel
theorem dX6_fresh_4 : decode cX6_fresh 4 = .ok (.aload_n 0, 1) := by decide +kernel
theorem dX6_fresh_5 : decode cX6_fresh 5 = .ok (.getfield 14, 3) := by decide +kernel
theorem dX6_fresh_8 : decode cX6_fresh 8 = .ok (.invokevirtual 24, 3) := by decide +kernel
theorem dX6_fresh_11 : decode cX6_fresh 11 = .ok (.if_icmp .ne 18, 3) := by decide +kernel
theorem dX6_fresh_14 : decode cX6_fresh 14 = .ok (.aload_n 0, 1) := by decide +kernel
theorem dX6_fresh_15 : decode cX6_fresh 15 = .ok (.getfield 14, 3) := by decide +kernel
theorem dX6_fresh_18 : decode cX6_fresh 18 = .ok (.new 28, 3) := by decide +kernel
theorem dX6_fresh_21 : decode cX6_fresh 21 = .ok (.dup, 1) := by decide +kernel
theorem dX6_fresh_22 : decode cX6_fresh 22 = .ok (.invokespecial 30, 3) := by decide +kernel
theorem dX6_fresh_25 : decode cX6_fresh 25 = .ok (.invokevirtual 33, 3) := by decide +kernel
theorem dX6_fresh_28 : decode cX6_fresh 28 = .ok (.pop, 1) := by decide +kernel
theorem dX6_fresh_29 : decode cX6_fresh 29 = .ok (.aload_n 0, 1) := by decide +kernel
theorem dX6_fresh_30 : decode cX6_fresh 30 = .ok (.getfield 14, 3) := by decide +kernel
theorem dX6_fresh_33 : decode cX6_fresh 33 = .ok (.aload_n 0, 1) := by decide +kernel
theorem dX6_fresh_34 : decode cX6_fresh 34 = .ok (.getfield 20, 3) := by decide +kernel
theorem dX6_fresh_37 : decode cX6_fresh 37 = .ok (.invokevirtual 37, 3) := by decide +kernel
theorem dX6_fresh_40 : decode cX6_fresh 40 = .ok (.checkcast 28, 3) := by decide +kernel
theorem dX6_fresh_43 : decode cX6_fresh 43 = .ok (.astore_n 3, 1) := by decide +kernel
theorem dX6_fresh_44 : decode cX6_fresh 44 = .ok (.aload_n 0, 1) := by decide +kernel
theorem dX6_fresh_45 : decode cX6_fresh 45 = .ok (.dup, 1) := by decide +kernel
theorem dX6_fresh_46 : decode cX6_fresh 46 = .ok (.getfield 20, 3) := by decide +kernel
theorem dX6_fresh_49 : decode cX6_fresh 49 = .ok (.iconst 1, 1) := by decide +kernel
theorem dX6_fresh_50 : decode cX6_fresh 50 = .ok (.iadd, 1) := by decide +kernel
theorem dX6_fresh_51 : decode cX6_fresh 51 = .ok (.putfield 20, 3) := by decide +kernel
theorem dX6_fresh_54 : decode cX6_fresh 54 = .ok (.aload_n 3, 1) := by decide +kernel
theorem dX6_fresh_55 : decode cX6_fresh 55 = .ok (.aload_n 1, 1) := by decide +kernel
theorem dX6_fresh_56 : decode cX6_fresh 56 = .ok (.aload_n 0, 1) := by decide +kernel
theorem dX6_fresh_57 : decode cX6_fresh 57 = .ok (.getfield 41, 3) := by decide +kernel
theorem dX6_fresh_60 : decode cX6_fresh 60 = .ok (.aload_n 2, 1) := by decide +kernel
theorem dX6_fresh_61 : decode cX6_fresh 61 = .ok (.invokevirtual 44, 3) := by decide +kernel
theorem dX6_fresh_64 : decode cX6_fresh 64 = .ok (.aload_n 3, 1) := by decide +kernel
theorem dX6_fresh_65 : decode cX6_fresh 65 = .ok (.areturn, 1) := by decide +kernel
abbrev MX6_fresh : zT := (yX6_fresh, cX6_fresh, 4, (Option.some (Jvm.ClassFile.FieldType.object "LassoFinder$Statement")), [])
theorem plX6_fresh : zplain MX6_fresh 2 ∧ (zcodeW MX6_fresh ∈ lw_all ∧ Cond.initialized MX6_fresh.1.cls ∈ lw_all) := ⟨⟨by decide +kernel, by decide +kernel⟩, q1143, q110⟩
noncomputable def f_X6_fresh_29 (x0 x1 x2 : Int) (σ : zM) : Option zO :=
  (zgf σ 605 x0).bind fun v1 =>
  (zgf σ 606 x0).bind fun v2 =>
  zgd (zis σ 23 v1) <|
  zcr (f_J6_get v1 v2 σ) fun v3 σ4 =>
  zgd (zis σ4 12 v3) <|
  (zgf σ4 606 x0).bind fun v5 =>
  (zpf σ4 606 x0 (zadd v5 1)).bind fun σ6 =>
  (zgf σ6 502 x0).bind fun v7 =>
  zgd (zis σ6 12 v3) <|
  zcv (f_X11_begin v3 x1 v7 x2 σ6) fun σ8 =>
  some (0, zr v3, σ8)
theorem w_X6_fresh_29 {g : zG} {lv : Nat} {out : zO} (x0 x1 x2 : Int) (σ : zM) {r : zO} (h : f_X6_fresh_29 x0 x1 x2 σ = some r) (hk : (fun o : zO => o = out) r) : Gj g MX6_fresh (lv + 7) 29 [(0, zr x0), (1, zr x1), (2, zr x2)] [] σ out := by
  revert h
  unfold f_X6_fresh_29
  refine zst_ (gj_aload_n 0 (pc := 29) dX6_fresh_29 rfl) ?_
  refine gb_get (pc := 30) fl605 dX6_fresh_30 q686 (Or.inl rfl) (fun v1 => ?_)
  refine zst_ (gj_aload_n 0 (pc := 33) dX6_fresh_33 rfl) ?_
  refine gb_get (pc := 34) fl606 dX6_fresh_34 q687 (Or.inl rfl) (fun v2 => ?_)
  refine gb_gd (fun hb => ?_)
  refine gb_callA (pc := 37) (as := [zr v1, zi v2]) (rest := []) (zCl.of (zLk_V (M := MX6_fresh) (ci := 22) (r := (RJ6, TJ6, 3)) plJ6_get.1 rfl rfl (zisE hb).1 (zisE hb).2 dX6_fresh_37 q1266 q1267 q1268 q1269) plJ6_get (Nat.le_of_ble_eq_true rfl) (fun h => c_J6_get h)) (fun v3 σ4 => ?_)
  refine gb_gd (fun hb => ?_)
  refine zst_ (gj_cast (pc := 40) (ci := 11) (r := (RX11, TX11, 12)) rfl (zisE hb).1 (zisE hb).2 dX6_fresh_40 q1148) ?_
  refine zst_ (gj_astore_n (pc := 43) (ls' := [(3, zr v3), (0, zr x0), (1, zr x1), (2, zr x2)]) dX6_fresh_43 (by decide) rfl) ?_
  refine zst_ (gj_aload_n 1 (pc := 44) dX6_fresh_44 rfl) ?_
  refine zst_ (gj_dup (pc := 45) dX6_fresh_45 rfl) ?_
  refine gb_get (pc := 46) fl606 dX6_fresh_46 q687 (Or.inl rfl) (fun v5 => ?_)
  refine zst_ (gj_iconst (pc := 49) dX6_fresh_49 (by decide)) ?_
  refine zst_ (gj_iadd (pc := 50) dX6_fresh_50) ?_
  refine gb_put (pc := 51) fl606 fr606 dX6_fresh_51 q687 (Or.inl rfl) (fun σ6 => ?_)
  refine zst_ (gj_aload_n 0 (pc := 54) dX6_fresh_54 rfl) ?_
  refine zst_ (gj_aload_n 2 (pc := 55) dX6_fresh_55 rfl) ?_
  refine zst_ (gj_aload_n 1 (pc := 56) dX6_fresh_56 rfl) ?_
  refine gb_get (pc := 57) fl502 dX6_fresh_57 q702 (Or.inr q703) (fun v7 => ?_)
  refine zst_ (gj_aload_n 3 (pc := 60) dX6_fresh_60 rfl) ?_
  refine gb_gd (fun hb => ?_)
  refine gb_callV (pc := 61) (as := [zr v3, zr x1, zi v7, zr x2]) (rest := []) (zCl.of (zLk_V (M := MX6_fresh) (ci := 11) (r := (RX11, TX11, 12)) plX11_begin.1 rfl rfl (zisE hb).1 (zisE hb).2 dX6_fresh_61 q1278 q1279 q1280 q1281) plX11_begin (Nat.le_of_ble_eq_true rfl) (fun h => c_X11_begin h)) (fun σ8 => ?_)
  refine zst_ (gj_aload_n 0 (pc := 64) dX6_fresh_64 rfl) ?_
  intro h
  cases h
  have hk : (0, zr v3, σ8) = out := hk
  subst hk
  exact gj_aret (pc := 65) dX6_fresh_65 rfl (Or.inl ⟨_, rfl⟩)
noncomputable def f_X6_fresh (x0 x1 x2 : Int) (σ : zM) : Option zO :=
  (zgf σ 606 x0).bind fun v1 =>
  (zgf σ 605 x0).bind fun v2 =>
  zgd (zis σ 23 v2) <|
  zci (f_J6_size v2 σ) fun v3 σ4 =>
  if v1 ≠ v3 then
    f_X6_fresh_29 x0 x1 x2 σ4
  else
    (zgf σ4 605 x0).bind fun v5 =>
    (znO σ4 11 12).bind fun σ6 =>
    zlet ((↑(zN σ4) : Int)) fun y7 =>
    zgd (decide (0 ≤ y7)) <|
    zcv (f_X11_init y7 σ6) fun σ8 =>
    zgd (zis σ8 23 v5) <|
    zci (f_J6_add v5 y7 σ8) fun v9 σ10 =>
    f_X6_fresh_29 x0 x1 x2 σ10
theorem c_X6_fresh {g : zG} {lv : Nat} {x0 x1 x2 : Int} {σ : zM} {out : zO} (h : f_X6_fresh x0 x1 x2 σ = some out) : Cj g (lv + 7) MX6_fresh [zr x0, zr x1, zr x2] σ out := by
  refine cj_go (ls := [(0, zr x0), (1, zr x1), (2, zr x2)]) (by decide) (Nat.le_of_ble_eq_true rfl) rfl (zgen h (fun r hk => ?_))
  unfold f_X6_fresh
  refine zst_ (gj_aload_n 0 (pc := 0) dX6_fresh_0 rfl) ?_
  refine gb_get (pc := 1) fl606 dX6_fresh_1 q687 (Or.inl rfl) (fun v1 => ?_)
  refine zst_ (gj_aload_n 0 (pc := 4) dX6_fresh_4 rfl) ?_
  refine gb_get (pc := 5) fl605 dX6_fresh_5 q686 (Or.inl rfl) (fun v2 => ?_)
  refine gb_gd (fun hb => ?_)
  refine gb_callI (pc := 8) (as := [zr v2]) (rest := [zi v1]) (zCl.of (zLk_V (M := MX6_fresh) (ci := 22) (r := (RJ6, TJ6, 3)) plJ6_size.1 rfl rfl (zisE hb).1 (zisE hb).2 dX6_fresh_8 q1144 q1145 q1146 q1147) plJ6_size (Nat.le_of_ble_eq_true rfl) (fun h => c_J6_size h)) (fun v3 σ4 => ?_)
  refine gb_if (gj_icmp_ne 29 (pc := 11) dX6_fresh_11 (by decide)) ?_ ?_
  · exact fun h => w_X6_fresh_29 x0 x1 x2 σ4 h hk
  · refine zst_ (gj_aload_n 0 (pc := 14) dX6_fresh_14 rfl) ?_
    refine gb_get (pc := 15) fl605 dX6_fresh_15 q686 (Or.inl rfl) (fun v5 => ?_)
    refine gb_new (pc := 18) (ci := 11) (c := (RX11, TX11, 12)) rfl (by decide) dX6_fresh_18 q1148 q1149 q133 (fun σ6 => ?_)
    refine gb_let (fun y7 => ?_)
    refine zst_ (gj_dup (pc := 21) dX6_fresh_21 rfl) ?_
    refine gb_gd (fun hb => ?_)
    refine gb_callV (pc := 22) (as := [zr y7]) (rest := [zr y7, zr v5]) (zCl.of (zLk_IN (M := MX6_fresh) plX11_init.1 rfl (of_decide_eq_true hb) rfl rfl dX6_fresh_22 q1150 q1151 q1152) plX11_init (Nat.le_of_ble_eq_true rfl) (fun h => c_X11_init h)) (fun σ8 => ?_)
    refine gb_gd (fun hb => ?_)
    refine gb_callI (pc := 25) (as := [zr v5, zr y7]) (rest := []) (zCl.of (zLk_V (M := MX6_fresh) (ci := 22) (r := (RJ6, TJ6, 3)) plJ6_add.1 rfl rfl (zisE hb).1 (zisE hb).2 dX6_fresh_25 q1207 q1208 q1209 q1210) plJ6_add (Nat.le_of_ble_eq_true rfl) (fun h => c_J6_add h)) (fun v9 σ10 => ?_)
    refine zst_ (gj_pop (pc := 28) dX6_fresh_28 rfl) ?_
    exact fun h => w_X6_fresh_29 x0 x1 x2 σ10 h hk
theorem q239 : (Jvm.Cond.fieldLinkNest "LassoFinder$ModelReader" (252 : Nat) "LassoFinder$Routine" "points" "I" "LassoFinder") ∈ lw_tbl := lw_at lw_m1 139 rfl
theorem q1178 : (Jvm.Cond.fieldLinkNest "LassoFinder$ModelReader" (178 : Nat) "LassoFinder$Statement" "point" "I" "LassoFinder") ∈ lw_tbl := lw_at lw_m5 118 rfl
theorem q1287 : (Jvm.Cond.code ({ cls := "LassoFinder$ModelReader", name := "tally", desc := "(LLassoFinder$Statement;)V" } : Jvm.MethodName) prog_10_method_13_code (2 : Nat) (Option.none : Option Jvm.ClassFile.FieldType)) ∈ lw_all := lw_g (lw_at lw_m5 227 rfl) rfl
abbrev cX6_tally : ByteArray := prog_10_method_13_code
def yX6_tally : MethodName := ⟨RX6, "tally", "(LLassoFinder$Statement;)V"⟩
theorem dX6_tally_0 : decode cX6_tally 0 = .ok (.aload_n 0, 1) := by decide +kernel
theorem dX6_tally_1 : decode cX6_tally 1 = .ok (.getfield 113, 3) := by decide +kernel
theorem dX6_tally_4 : decode cX6_tally 4 = .ok (.getfield 252, 3) := by decide +kernel
theorem dX6_tally_7 : decode cX6_tally 7 = .ok (.bipush 30, 2) := by decide +kernel
theorem dX6_tally_9 : decode cX6_tally 9 = .ok (.if_icmp .ge 7, 3) := by decide +kernel
theorem dX6_tally_12 : decode cX6_tally 12 = .ok (.iconst 1, 1) := by decide +kernel
theorem dX6_tally_13 : decode cX6_tally 13 = .ok (.goto 4, 3) := by decide +kernel
theorem dX6_tally_16 : decode cX6_tally 16 = .ok (.iconst 0, 1) := by decide +kernel
theorem dX6_tally_17 : decode cX6_tally 17 = .ok (.invokestatic 90, 3) := by decide +kernel
theorem dX6_tally_20 : decode cX6_tally 20 = .ok (.aload_n 1, 1) := by decide +kernel
theorem dX6_tally_21 : decode cX6_tally 21 = .ok (.aload_n 0, 1) := by decide +kernel
theorem dX6_tally_22 : decode cX6_tally 22 = .ok (.getfield 113, 3) := by decide +kernel
theorem dX6_tally_25 : decode cX6_tally 25 = .ok (.getfield 252, 3) := by decide +kernel
theorem dX6_tally_28 : decode cX6_tally 28 = .ok (.putfield 178, 3) := by decide +kernel
theorem dX6_tally_31 : decode cX6_tally 31 = .ok (.aload_n 0, 1) := by decide +kernel
theorem dX6_tally_32 : decode cX6_tally 32 = .ok (.getfield 113, 3) := by decide +kernel
theorem dX6_tally_35 : decode cX6_tally 35 = .ok (.dup, 1) := by decide +kernel
theorem dX6_tally_36 : decode cX6_tally 36 = .ok (.getfield 252, 3) := by decide +kernel
theorem dX6_tally_39 : decode cX6_tally 39 = .ok (.iconst 1, 1) := by decide +kernel
theorem dX6_tally_40 : decode cX6_tally 40 = .ok (.iadd, 1) := by decide +kernel
theorem dX6_tally_41 : decode cX6_tally 41 = .ok (.putfield 252, 3) := by decide +kernel
theorem dX6_tally_44 : decode cX6_tally 44 = .ok (.return_, 1) := by decide +kernel
abbrev MX6_tally : zT := (yX6_tally, cX6_tally, 2, (Option.none : Option Jvm.ClassFile.FieldType), [])
theorem plX6_tally : zplain MX6_tally 1 ∧ (zcodeW MX6_tally ∈ lw_all ∧ Cond.initialized MX6_tally.1.cls ∈ lw_all) := ⟨⟨by decide +kernel, by decide +kernel⟩, q1287, q110⟩
noncomputable def f_X6_tally_17 (x0 x1 t0 : Int) (σ : zM) : Option zO :=
  zcvT (f_X5_need t0 σ) (fun n a σ1 => some (n + 1, zr a, σ1)) fun σ1 =>
  (zgf σ1 607 x0).bind fun v2 =>
  (zgf σ1 401 v2).bind fun v3 =>
  (zpf σ1 1110 x1 v3).bind fun σ4 =>
  (zgf σ4 607 x0).bind fun v5 =>
  (zgf σ4 401 v5).bind fun v6 =>
  (zpf σ4 401 v5 (zadd v6 1)).bind fun σ7 =>
  some (0, ((3, 0) : zV), σ7)
theorem w_X6_tally_17 {g : zG} {lv : Nat} {out : zO} (x0 x1 t0 : Int) (σ : zM) {r : zO} (h : f_X6_tally_17 x0 x1 t0 σ = some r) (hk : (fun o : zO => o = out) r) : Gj g MX6_tally (lv + 7) 17 [(0, zr x0), (1, zr x1)] [zi t0] σ out := by
  revert h
  unfold f_X6_tally_17
  refine gb_callVT (pc := 17) (as := [zi t0]) (rest := []) (zCl.of (zLk_SU (M := MX6_tally) (x := ⟨"LassoFinder$ModelReader", "need", "(Z)V"⟩) plX5_need.1 ⟨rfl, rfl⟩ rfl dX6_tally_17 q1083 q1084 q1085 q109 q1086) plX5_need (Nat.le_of_ble_eq_true rfl) (fun h => c_X5_need h)) (fun n a s0 h => by cases h; exact Or.inl ⟨rfl, hk⟩) (fun σ1 => ?_)
  refine zst_ (gj_aload_n 1 (pc := 20) dX6_tally_20 rfl) ?_
  refine zst_ (gj_aload_n 0 (pc := 21) dX6_tally_21 rfl) ?_
  refine gb_get (pc := 22) fl607 dX6_tally_22 q688 (Or.inl rfl) (fun v2 => ?_)
  refine gb_getNe (pc := 25) fl401 dX6_tally_25 q239 (Or.inl rfl) (fun v3 => ?_)
  refine gb_putNe (pc := 28) fl1110 fr1110 dX6_tally_28 q1178 (Or.inl rfl) (fun σ4 => ?_)
  refine zst_ (gj_aload_n 0 (pc := 31) dX6_tally_31 rfl) ?_
  refine gb_get (pc := 32) fl607 dX6_tally_32 q688 (Or.inl rfl) (fun v5 => ?_)
  refine zst_ (gj_dup (pc := 35) dX6_tally_35 rfl) ?_
  refine gb_getNe (pc := 36) fl401 dX6_tally_36 q239 (Or.inl rfl) (fun v6 => ?_)
  refine zst_ (gj_iconst (pc := 39) dX6_tally_39 (by decide)) ?_
  refine zst_ (gj_iadd (pc := 40) dX6_tally_40) ?_
  refine gb_putNe (pc := 41) fl401 fr401 dX6_tally_41 q239 (Or.inl rfl) (fun σ7 => ?_)
  intro h
  cases h
  have hk : (0, ((3, 0) : zV), σ7) = out := hk
  subst hk
  exact gj_vret (pc := 44) dX6_tally_44 rfl
noncomputable def f_X6_tally (x0 x1 : Int) (σ : zM) : Option zO :=
  (zgf σ 607 x0).bind fun v1 =>
  (zgf σ 401 v1).bind fun v2 =>
  if 30 ≤ v2 then
    f_X6_tally_17 x0 x1 0 σ
  else
    f_X6_tally_17 x0 x1 1 σ
theorem c_X6_tally {g : zG} {lv : Nat} {x0 x1 : Int} {σ : zM} {out : zO} (h : f_X6_tally x0 x1 σ = some out) : Cj g (lv + 7) MX6_tally [zr x0, zr x1] σ out := by
  refine cj_go (ls := [(0, zr x0), (1, zr x1)]) (by decide) (Nat.le_of_ble_eq_true rfl) rfl (zgen h (fun r hk => ?_))
  unfold f_X6_tally
  refine zst_ (gj_aload_n 0 (pc := 0) dX6_tally_0 rfl) ?_
  refine gb_get (pc := 1) fl607 dX6_tally_1 q688 (Or.inl rfl) (fun v1 => ?_)
  refine gb_getNe (pc := 4) fl401 dX6_tally_4 q239 (Or.inl rfl) (fun v2 => ?_)
  refine zst_ (gj_bipush (pc := 7) dX6_tally_7 ⟨rfl, by decide⟩) ?_
  refine gb_if (gj_icmp_ge 16 (pc := 9) dX6_tally_9 (by decide)) ?_ ?_
  · refine zst_ (gj_iconst (pc := 16) dX6_tally_16 (by decide)) ?_
    exact fun h => w_X6_tally_17 x0 x1 0 σ h hk
  · refine zst_ (gj_iconst (pc := 12) dX6_tally_12 (by decide)) ?_
    refine zst_ (gj_goto 17 (pc := 13) dX6_tally_13 (by decide)) ?_
    exact fun h => w_X6_tally_17 x0 x1 1 σ h hk
theorem q1291 : (Jvm.Cond.code ({ cls := "LassoFinder$Statement", name := "around", desc := "(LLassoFinder$Kind;)LLassoFinder$Statement;" } : Jvm.MethodName) prog_19_method_3_code (3 : Nat) (Option.some (Jvm.ClassFile.FieldType.object "LassoFinder$Statement"))) ∈ lw_all := lw_g (lw_at lw_m5 231 rfl) rfl
abbrev cX11_around : ByteArray := prog_19_method_3_code
def yX11_around : MethodName := ⟨RX11, "around", "(LLassoFinder$Kind;)LLassoFinder$Statement;"⟩
theorem dX11_around_0 : decode cX11_around 0 = .ok (.aload_n 0, 1) := by decide +kernel
theorem dX11_around_1 : decode cX11_around 1 = .ok (.getfield 19, 3) := by decide +kernel
theorem dX11_around_4 : decode cX11_around 4 = .ok (.astore_n 2, 1) := by decide +kernel
theorem dX11_around_5 : decode cX11_around 5 = .ok (.aload_n 2, 1) := by decide +kernel
theorem dX11_around_6 : decode cX11_around 6 = .ok (.ifnull 19, 3) := by decide +kernel
theorem dX11_around_9 : decode cX11_around 9 = .ok (.aload_n 2, 1) := by decide +kernel
theorem dX11_around_10 : decode cX11_around 10 = .ok (.getfield 9, 3) := by decide +kernel
theorem dX11_around_13 : decode cX11_around 13 = .ok (.aload_n 1, 1) := by decide +kernel
theorem dX11_around_14 : decode cX11_around 14 = .ok (.if_acmp .eq 11, 3) := by decide +kernel
theorem dX11_around_17 : decode cX11_around 17 = .ok (.aload_n 2, 1) := by decide +kernel
theorem dX11_around_18 : decode cX11_around 18 = .ok (.getfield 19, 3) := by decide +kernel
theorem dX11_around_21 : decode cX11_around 21 = .ok (.astore_n 2, 1) := by decide +kernel
theorem dX11_around_22 : decode cX11_around 22 = .ok (.goto (-17), 3) := by decide +kernel
theorem dX11_around_25 : decode cX11_around 25 = .ok (.aload_n 2, 1) := by decide +kernel
theorem dX11_around_26 : decode cX11_around 26 = .ok (.areturn, 1) := by decide +kernel
abbrev MX11_around : zT := (yX11_around, cX11_around, 3, (Option.some (Jvm.ClassFile.FieldType.object "LassoFinder$Statement")), [])
theorem plX11_around : zplain MX11_around 1 ∧ (zcodeW MX11_around ∈ lw_all ∧ Cond.initialized MX11_around.1.cls ∈ lw_all) := ⟨⟨by decide +kernel, by decide +kernel⟩, q1291, q133⟩
noncomputable def f_X11_around_25 (x2 : Int) (σ : zM) : Option zO :=
  some (0, zr x2, σ)
theorem w_X11_around_25 {g : zG} {lv : Nat} {out : zO} (x2 : Int) (σ : zM) {r : zO} (h : f_X11_around_25 x2 σ = some r) (hk : (fun o : zO => o = out) r) : Gj g MX11_around (lv) 25 [(2, zr x2)] [] σ out := by
  revert h
  unfold f_X11_around_25
  refine zst_ (gj_aload_n 0 (pc := 25) dX11_around_25 rfl) ?_
  intro h
  cases h
  have hk : (0, zr x2, σ) = out := hk
  subst hk
  exact gj_aret (pc := 26) dX11_around_26 rfl (Or.inl ⟨_, rfl⟩)
noncomputable def f_X11_around_5_b (x1 x2 : Int) (σ : zM) : Option ((Int) ⊕ zO) :=
  if x2 = (-1) then
    (f_X11_around_25 x2 σ).map (fun r => (.inr r))
  else
    (zgf σ 1100 x2).bind fun v1 =>
    if v1 = x1 then
      (f_X11_around_25 x2 σ).map (fun r => (.inr r))
    else
      (zgf σ 1102 x2).bind fun v2 =>
      some (.inl v2)
noncomputable def f_X11_around_5 (x1 x2 : Int) (σ : zM) : Option zO :=
  zloop (fun s : Int => f_X11_around_5_b x1 s σ) x2
theorem w_X11_around_5_b {g : zG} {lv : Nat} {out : zO} (x1 x2 : Int) (σ : zM) {r : ((Int) ⊕ zO)} (h : f_X11_around_5_b x1 x2 σ = some r) (hk : (zKL (fun s : Int => Gj g MX11_around (lv) 5 [(1, zr x1), (2, zr s)] [] σ out) (fun o : zO => o = out)) r) : Gj g MX11_around (lv) 5 [(1, zr x1), (2, zr x2)] [] σ out := by
  revert h
  unfold f_X11_around_5_b
  refine zst_ (gj_aload_n 1 (pc := 5) dX11_around_5 rfl) ?_
  refine gb_if (gj_ifnull 25 (pc := 6) dX11_around_6 (by decide)) ?_ ?_
  · refine zst_ (gj_sub [1] rfl) ?_
    intro h
    obtain ⟨r0, h0, rfl⟩ := zmE h
    exact w_X11_around_25 x2 σ h0 hk
  · refine zst_ (gj_aload_n 1 (pc := 9) dX11_around_9 rfl) ?_
    refine gb_get (pc := 10) fl1100 dX11_around_10 q1154 (Or.inl rfl) (fun v1 => ?_)
    refine zst_ (gj_aload_n 0 (pc := 13) dX11_around_13 rfl) ?_
    refine gb_if (gj_acmp_eq 25 (pc := 14) dX11_around_14 (by decide)) ?_ ?_
    · refine zst_ (gj_sub [1] rfl) ?_
      intro h
      obtain ⟨r0, h0, rfl⟩ := zmE h
      exact w_X11_around_25 x2 σ h0 hk
    · refine zst_ (gj_aload_n 1 (pc := 17) dX11_around_17 rfl) ?_
      refine gb_get (pc := 18) fl1102 dX11_around_18 q1159 (Or.inl rfl) (fun v2 => ?_)
      refine zst_ (gj_astore_n (pc := 21) (ls' := [(2, zr v2), (1, zr x1)]) dX11_around_21 (by decide) rfl) ?_
      refine zst_ (gj_goto 5 (pc := 22) dX11_around_22 (by decide)) ?_
      refine zst_ (gj_sub [1, 0] rfl) ?_
      intro h
      cases h
      exact hk
theorem w_X11_around_5 {g : zG} {lv : Nat} {out : zO} (x1 x2 : Int) (σ : zM) {r : zO} (h : f_X11_around_5 x1 x2 σ = some r) (hk : (fun o : zO => o = out) r) : Gj g MX11_around (lv) 5 [(1, zr x1), (2, zr x2)] [] σ out :=
  gj_loop (P := (fun s : Int => Gj g MX11_around (lv) 5 [(1, zr x1), (2, zr s)] [] σ out)) (fun s x hb hx => w_X11_around_5_b x1 s σ hb hx) h hk
noncomputable def f_X11_around (x0 x1 : Int) (σ : zM) : Option zO :=
  (zgf σ 1102 x0).bind fun v1 =>
  f_X11_around_5 x1 v1 σ
theorem c_X11_around {g : zG} {lv : Nat} {x0 x1 : Int} {σ : zM} {out : zO} (h : f_X11_around x0 x1 σ = some out) : Cj g (lv) MX11_around [zr x0, zr x1] σ out := by
  refine cj_go (ls := [(0, zr x0), (1, zr x1)]) (by decide) (Nat.le_of_ble_eq_true rfl) rfl (zgen h (fun r hk => ?_))
  unfold f_X11_around
  refine zst_ (gj_aload_n 0 (pc := 0) dX11_around_0 rfl) ?_
  refine gb_get (pc := 1) fl1102 dX11_around_1 q1159 (Or.inl rfl) (fun v1 => ?_)
  refine zst_ (gj_astore_n (pc := 4) (ls' := [(2, zr v1), (0, zr x0), (1, zr x1)]) dX11_around_4 (by decide) rfl) ?_
  refine zst_ (gj_sub [2, 0] rfl) ?_
  exact fun h => w_X11_around_5 x1 v1 σ h hk
theorem q1140 : (Jvm.Cond.methodLink "LassoFinder$ModelReader" (248 : Nat) ({ cls := "LassoFinder$ModelReader", name := "fresh", desc := "(LLassoFinder$Kind;LLassoFinder$Statement;)LLassoFinder$Statement;" } : Jvm.MethodName)) ∈ lw_all := lw_g (lw_at lw_m5 80 rfl) rfl
theorem q1142 : (Jvm.Cond.instanceMethod ({ cls := "LassoFinder$ModelReader", name := "fresh", desc := "(LLassoFinder$Kind;LLassoFinder$Statement;)LLassoFinder$Statement;" } : Jvm.MethodName)) ∈ lw_all := lw_g (lw_at lw_m5 82 rfl) rfl
theorem q1155 : (Jvm.Cond.fieldLinkNest "LassoFinder$ModelReader" (134 : Nat) "LassoFinder$Statement" "kind" "LLassoFinder$Kind;" "LassoFinder") ∈ lw_tbl := lw_at lw_m5 95 rfl
theorem q1169 : (Jvm.Cond.fieldLinkNest "LassoFinder$ModelReader" (147 : Nat) "LassoFinder$Statement" "name" "I" "LassoFinder") ∈ lw_tbl := lw_at lw_m5 109 rfl
theorem q1288 : (Jvm.Cond.methodLink "LassoFinder$ModelReader" (190 : Nat) ({ cls := "LassoFinder$Statement", name := "around", desc := "(LLassoFinder$Kind;)LLassoFinder$Statement;" } : Jvm.MethodName)) ∈ lw_all := lw_g (lw_at lw_m5 228 rfl) rfl
theorem q1289 : (Jvm.Cond.instanceMethod ({ cls := "LassoFinder$Statement", name := "around", desc := "(LLassoFinder$Kind;)LLassoFinder$Statement;" } : Jvm.MethodName)) ∈ lw_all := lw_g (lw_at lw_m5 229 rfl) rfl
theorem q1290 : (Jvm.Cond.selects "LassoFinder$Statement" ({ cls := "LassoFinder$Statement", name := "around", desc := "(LLassoFinder$Kind;)LLassoFinder$Statement;" } : Jvm.MethodName) ({ cls := "LassoFinder$Statement", name := "around", desc := "(LLassoFinder$Kind;)LLassoFinder$Statement;" } : Jvm.MethodName)) ∈ lw_all := lw_g (lw_at lw_m5 230 rfl) rfl
theorem q1292 : (Jvm.Cond.fieldLink "LassoFinder$ModelReader" (235 : Nat) "LassoFinder$Kind" "REPETITION" "LLassoFinder$Kind;") ∈ lw_all := lw_g (lw_at lw_m5 232 rfl) rfl
theorem q1297 : (Jvm.Cond.code ({ cls := "LassoFinder$ModelReader", name := "leap", desc := "(LLassoFinder$Statement;Z)LLassoFinder$Statement;" } : Jvm.MethodName) prog_10_method_12_code (4 : Nat) (Option.some (Jvm.ClassFile.FieldType.object "LassoFinder$Statement"))) ∈ lw_all := lw_g (lw_at lw_m5 237 rfl) rfl
theorem q1298 : (Jvm.Cond.fieldLink "LassoFinder$ModelReader" (245 : Nat) "LassoFinder$Kind" "BREAK" "LLassoFinder$Kind;") ∈ lw_all := lw_g (lw_at lw_m5 238 rfl) rfl
theorem q1300 : (Jvm.Cond.fieldLink "LassoFinder$ModelReader" (138 : Nat) "LassoFinder$Kind" "JUMP" "LLassoFinder$Kind;") ∈ lw_all := lw_g (lw_at lw_m6 0 rfl) rfl
abbrev cX6_leap : ByteArray := prog_10_method_12_code
def yX6_leap : MethodName := ⟨RX6, "leap", "(LLassoFinder$Statement;Z)LLassoFinder$Statement;"⟩
theorem dX6_leap_0 : decode cX6_leap 0 = .ok (.aload_n 1, 1) := by decide +kernel
theorem dX6_leap_1 : decode cX6_leap 1 = .ok (.ifnull 7, 3) := by decide +kernel
theorem dX6_leap_4 : decode cX6_leap 4 = .ok (.iload_n 2, 1) := by decide +kernel
theorem dX6_leap_5 : decode cX6_leap 5 = .ok (.ifCond .ne 7, 3) := by decide +kernel
theorem dX6_leap_8 : decode cX6_leap 8 = .ok (.iconst 1, 1) := by decide +kernel
theorem dX6_leap_9 : decode cX6_leap 9 = .ok (.goto 4, 3) := by decide +kernel
theorem dX6_leap_12 : decode cX6_leap 12 = .ok (.iconst 0, 1) := by decide +kernel
theorem dX6_leap_13 : decode cX6_leap 13 = .ok (.invokestatic 90, 3) := by decide +kernel
theorem dX6_leap_16 : decode cX6_leap 16 = .ok (.aload_n 0, 1) := by decide +kernel
theorem dX6_leap_17 : decode cX6_leap 17 = .ok (.aload_n 0, 1) := by decide +kernel
theorem dX6_leap_18 : decode cX6_leap 18 = .ok (.invokevirtual 57, 3) := by decide +kernel
theorem dX6_leap_21 : decode cX6_leap 21 = .ok (.bipush 46, 2) := by decide +kernel
theorem dX6_leap_23 : decode cX6_leap 23 = .ok (.if_icmp .ne 9, 3) := by decide +kernel
theorem dX6_leap_26 : decode cX6_leap 26 = .ok (.getstatic 245, 3) := by decide +kernel
theorem dX6_leap_29 : decode cX6_leap 29 = .ok (.goto 6, 3) := by decide +kernel
theorem dX6_leap_32 : decode cX6_leap 32 = .ok (.getstatic 138, 3) := by decide +kernel
theorem dX6_leap_35 : decode cX6_leap 35 = .ok (.aload_n 1, 1) := by decide +kernel
theorem dX6_leap_36 : decode cX6_leap 36 = .ok (.invokevirtual 248, 3) := by decide +kernel
theorem dX6_leap_39 : decode cX6_leap 39 = .ok (.astore_n 3, 1) := by decide +kernel
theorem dX6_leap_40 : decode cX6_leap 40 = .ok (.aload_n 3, 1) := by decide +kernel
theorem dX6_leap_41 : decode cX6_leap 41 = .ok (.getfield 134, 3) := by decide +kernel
theorem dX6_leap_44 : decode cX6_leap 44 = .ok (.getstatic 138, 3) := by decide +kernel
theorem dX6_leap_47 : decode cX6_leap 47 = .ok (.if_acmp .eq 13, 3) := by decide +kernel
theorem dX6_leap_50 : decode cX6_leap 50 = .ok (.aload_n 3, 1) := by decide +kernel
theorem dX6_leap_51 : decode cX6_leap 51 = .ok (.getstatic 235, 3) := by decide +kernel
theorem dX6_leap_54 : decode cX6_leap 54 = .ok (.invokevirtual 190, 3) := by decide +kernel
theorem dX6_leap_57 : decode cX6_leap 57 = .ok (.ifnull 7, 3) := by decide +kernel
theorem dX6_leap_60 : decode cX6_leap 60 = .ok (.iconst 1, 1) := by decide +kernel
theorem dX6_leap_61 : decode cX6_leap 61 = .ok (.goto 4, 3) := by decide +kernel
theorem dX6_leap_64 : decode cX6_leap 64 = .ok (.iconst 0, 1) := by decide +kernel
theorem dX6_leap_65 : decode cX6_leap 65 = .ok (.invokestatic 90, 3) := by decide +kernel
theorem dX6_leap_68 : decode cX6_leap 68 = .ok (.aload_n 0, 1) := by decide +kernel
theorem dX6_leap_69 : decode cX6_leap 69 = .ok (.dup, 1) := by decide +kernel
theorem dX6_leap_70 : decode cX6_leap 70 = .ok (.getfield 41, 3) := by decide +kernel
theorem dX6_leap_73 : decode cX6_leap 73 = .ok (.iconst 1, 1) := by decide +kernel
theorem dX6_leap_74 : decode cX6_leap 74 = .ok (.iadd, 1) := by decide +kernel
theorem dX6_leap_75 : decode cX6_leap 75 = .ok (.putfield 41, 3) := by decide +kernel
theorem dX6_leap_78 : decode cX6_leap 78 = .ok (.aload_n 3, 1) := by decide +kernel
theorem dX6_leap_79 : decode cX6_leap 79 = .ok (.getfield 134, 3) := by decide +kernel
theorem dX6_leap_82 : decode cX6_leap 82 = .ok (.getstatic 138, 3) := by decide +kernel
theorem dX6_leap_85 : decode cX6_leap 85 = .ok (.if_acmp .ne 15, 3) := by decide +kernel
theorem dX6_leap_88 : decode cX6_leap 88 = .ok (.aload_n 3, 1) := by decide +kernel
theorem dX6_leap_89 : decode cX6_leap 89 = .ok (.aload_n 0, 1) := by decide +kernel
theorem dX6_leap_90 : decode cX6_leap 90 = .ok (.bipush 65, 2) := by decide +kernel
theorem dX6_leap_92 : decode cX6_leap 92 = .ok (.bipush 8, 2) := by decide +kernel
theorem dX6_leap_94 : decode cX6_leap 94 = .ok (.invokevirtual 94, 3) := by decide +kernel
theorem dX6_leap_97 : decode cX6_leap 97 = .ok (.putfield 147, 3) := by decide +kernel
theorem dX6_leap_100 : decode cX6_leap 100 = .ok (.aload_n 3, 1) := by decide +kernel
theorem dX6_leap_101 : decode cX6_leap 101 = .ok (.areturn, 1) := by decide +kernel
abbrev MX6_leap : zT := (yX6_leap, cX6_leap, 4, (Option.some (Jvm.ClassFile.FieldType.object "LassoFinder$Statement")), [])
theorem plX6_leap : zplain MX6_leap 2 ∧ (zcodeW MX6_leap ∈ lw_all ∧ Cond.initialized MX6_leap.1.cls ∈ lw_all) := ⟨⟨by decide +kernel, by decide +kernel⟩, q1297, q110⟩
noncomputable def f_X6_leap_100 (x3 : Int) (σ : zM) : Option zO :=
  some (0, zr x3, σ)
theorem w_X6_leap_100 {g : zG} {lv : Nat} {out : zO} (x3 : Int) (σ : zM) {r : zO} (h : f_X6_leap_100 x3 σ = some r) (hk : (fun o : zO => o = out) r) : Gj g MX6_leap (lv + 8) 100 [(3, zr x3)] [] σ out := by
  revert h
  unfold f_X6_leap_100
  refine zst_ (gj_aload_n 0 (pc := 100) dX6_leap_100 rfl) ?_
  intro h
  cases h
  have hk : (0, zr x3, σ) = out := hk
  subst hk
  exact gj_aret (pc := 101) dX6_leap_101 rfl (Or.inl ⟨_, rfl⟩)
noncomputable def f_X6_leap_65 (x0 x3 t0 : Int) (σ : zM) : Option zO :=
  zcvT (f_X5_need t0 σ) (fun n a σ1 => some (n + 1, zr a, σ1)) fun σ1 =>
  (zgf σ1 502 x0).bind fun v2 =>
  (zpf σ1 502 x0 (zadd v2 1)).bind fun σ3 =>
  (zgf σ3 1100 x3).bind fun v4 =>
  if v4 ≠ (-12) then
    f_X6_leap_100 x3 σ3
  else
    zgd (zis σ3 7 x0) <|
    zciT (f_X5_letter x0 65 8 σ3) (fun n a σ6 => some (n + 1, zr a, σ6)) fun v5 σ6 =>
    (zpf σ6 1107 x3 v5).bind fun σ7 =>
    f_X6_leap_100 x3 σ7
theorem w_X6_leap_65 {g : zG} {lv : Nat} {out : zO} (x0 x3 t0 : Int) (σ : zM) {r : zO} (h : f_X6_leap_65 x0 x3 t0 σ = some r) (hk : (fun o : zO => o = out) r) : Gj g MX6_leap (lv + 8) 65 [(0, zr x0), (3, zr x3)] [zi t0] σ out := by
  revert h
  unfold f_X6_leap_65
  refine gb_callVT (pc := 65) (as := [zi t0]) (rest := []) (zCl.of (zLk_SU (M := MX6_leap) (x := ⟨"LassoFinder$ModelReader", "need", "(Z)V"⟩) plX5_need.1 ⟨rfl, rfl⟩ rfl dX6_leap_65 q1083 q1084 q1085 q109 q1086) plX5_need (Nat.le_of_ble_eq_true rfl) (fun h => c_X5_need h)) (fun n a s0 h => by cases h; exact Or.inl ⟨rfl, hk⟩) (fun σ1 => ?_)
  refine zst_ (gj_aload_n 0 (pc := 68) dX6_leap_68 rfl) ?_
  refine zst_ (gj_dup (pc := 69) dX6_leap_69 rfl) ?_
  refine gb_get (pc := 70) fl502 dX6_leap_70 q702 (Or.inr q703) (fun v2 => ?_)
  refine zst_ (gj_iconst (pc := 73) dX6_leap_73 (by decide)) ?_
  refine zst_ (gj_iadd (pc := 74) dX6_leap_74) ?_
  refine gb_put (pc := 75) fl502 fr502 dX6_leap_75 q702 (Or.inr q703) (fun σ3 => ?_)
  refine zst_ (gj_aload_n 1 (pc := 78) dX6_leap_78 rfl) ?_
  refine gb_getNe (pc := 79) fl1100 dX6_leap_79 q1155 (Or.inl rfl) (fun v4 => ?_)
  refine zst_ (gj_enumL (pc := 82) (i := 10) (by decide) rfl rfl dX6_leap_82 q1300 rfl) ?_
  refine gb_if (gj_acmp_ne 100 (pc := 85) dX6_leap_85 (by decide)) ?_ ?_
  · refine zst_ (gj_sub [1] rfl) ?_
    exact fun h => w_X6_leap_100 x3 σ3 h hk
  · refine zst_ (gj_aload_n 1 (pc := 88) dX6_leap_88 rfl) ?_
    refine zst_ (gj_aload_n 0 (pc := 89) dX6_leap_89 rfl) ?_
    refine zst_ (gj_bipush (pc := 90) dX6_leap_90 ⟨rfl, by decide⟩) ?_
    refine zst_ (gj_bipush (pc := 92) dX6_leap_92 ⟨rfl, by decide⟩) ?_
    refine gb_gd (fun hb => ?_)
    refine gb_callIT (pc := 94) (as := [zr x0, zi 65, zi 8]) (rest := [zr x3]) (zCl.of (zLk_VU (M := MX6_leap) (ci := 6) (r := (RX6, TX6, 8)) (x := ⟨"LassoFinder$ModelReader", "letter", "(CI)I"⟩) plX5_letter.1 ⟨rfl, rfl⟩ rfl rfl (zisE hb).1 (zisE hb).2 dX6_leap_94 q1098 q1099 q1102 q1101 q1103) plX5_letter (Nat.le_of_ble_eq_true rfl) (fun h => c_X5_letter h)) (fun n a s0 h => by cases h; exact Or.inl ⟨rfl, hk⟩) (fun v5 σ6 => ?_)
    refine gb_putNe (pc := 97) fl1107 fr1107 dX6_leap_97 q1169 (Or.inl rfl) (fun σ7 => ?_)
    refine zst_ (gj_sub [1] rfl) ?_
    exact fun h => w_X6_leap_100 x3 σ7 h hk
noncomputable def f_X6_leap_60 (x0 x3 : Int) (σ : zM) : Option zO :=
  f_X6_leap_65 x0 x3 1 σ
theorem w_X6_leap_60 {g : zG} {lv : Nat} {out : zO} (x0 x3 : Int) (σ : zM) {r : zO} (h : f_X6_leap_60 x0 x3 σ = some r) (hk : (fun o : zO => o = out) r) : Gj g MX6_leap (lv + 8) 60 [(0, zr x0), (3, zr x3)] [] σ out := by
  revert h
  unfold f_X6_leap_60
  refine zst_ (gj_iconst (pc := 60) dX6_leap_60 (by decide)) ?_
  refine zst_ (gj_goto 65 (pc := 61) dX6_leap_61 (by decide)) ?_
  exact fun h => w_X6_leap_65 x0 x3 1 σ h hk
noncomputable def f_X6_leap_35 (x0 x1 t0 t1 : Int) (σ : zM) : Option zO :=
  zgd (zis σ 7 t1) <|
  zcr (f_X6_fresh t1 t0 x1 σ) fun v1 σ2 =>
  (zgf σ2 1100 v1).bind fun v3 =>
  if v3 = (-12) then
    f_X6_leap_60 x0 v1 σ2
  else
    zgd (zis σ2 12 v1) <|
    zcr (f_X11_around v1 (-9) σ2) fun v4 σ5 =>
    if v4 = (-1) then
      f_X6_leap_65 x0 v1 0 σ5
    else
      f_X6_leap_60 x0 v1 σ5
theorem w_X6_leap_35 {g : zG} {lv : Nat} {out : zO} (x0 x1 t0 t1 : Int) (σ : zM) {r : zO} (h : f_X6_leap_35 x0 x1 t0 t1 σ = some r) (hk : (fun o : zO => o = out) r) : Gj g MX6_leap (lv + 8) 35 [(0, zr x0), (1, zr x1)] [zr t0, zr t1] σ out := by
  revert h
  unfold f_X6_leap_35
  refine zst_ (gj_aload_n 1 (pc := 35) dX6_leap_35 rfl) ?_
  refine gb_gd (fun hb => ?_)
  refine gb_callA (pc := 36) (as := [zr t1, zr t0, zr x1]) (rest := []) (zCl.of (zLk_V (M := MX6_leap) (ci := 6) (r := (RX6, TX6, 8)) plX6_fresh.1 rfl rfl (zisE hb).1 (zisE hb).2 dX6_leap_36 q1140 q1142 qs6 q1143) plX6_fresh (Nat.le_of_ble_eq_true rfl) (fun h => c_X6_fresh h)) (fun v1 σ2 => ?_)
  refine zst_ (gj_astore_n (pc := 39) (ls' := [(3, zr v1), (0, zr x0), (1, zr x1)]) dX6_leap_39 (by decide) rfl) ?_
  refine zst_ (gj_aload_n 0 (pc := 40) dX6_leap_40 rfl) ?_
  refine gb_getNe (pc := 41) fl1100 dX6_leap_41 q1155 (Or.inl rfl) (fun v3 => ?_)
  refine zst_ (gj_enumL (pc := 44) (i := 10) (by decide) rfl rfl dX6_leap_44 q1300 rfl) ?_
  refine gb_if (gj_acmp_eq 60 (pc := 47) dX6_leap_47 (by decide)) ?_ ?_
  · refine zst_ (gj_sub [1, 0] rfl) ?_
    exact fun h => w_X6_leap_60 x0 v1 σ2 h hk
  · refine zst_ (gj_aload_n 0 (pc := 50) dX6_leap_50 rfl) ?_
    refine zst_ (gj_enumL (pc := 51) (i := 7) (by decide) rfl rfl dX6_leap_51 q1292 rfl) ?_
    refine gb_gd (fun hb => ?_)
    refine gb_callA (pc := 54) (as := [zr v1, zr (-9)]) (rest := []) (zCl.of (zLk_V (M := MX6_leap) (ci := 11) (r := (RX11, TX11, 12)) plX11_around.1 rfl rfl (zisE hb).1 (zisE hb).2 dX6_leap_54 q1288 q1289 q1290 q1291) plX11_around (Nat.le_of_ble_eq_true rfl) (fun h => c_X11_around h)) (fun v4 σ5 => ?_)
    refine gb_if (gj_ifnull 64 (pc := 57) dX6_leap_57 (by decide)) ?_ ?_
    · refine zst_ (gj_iconst (pc := 64) dX6_leap_64 (by decide)) ?_
      refine zst_ (gj_sub [1, 0] rfl) ?_
      exact fun h => w_X6_leap_65 x0 v1 0 σ5 h hk
    · refine zst_ (gj_sub [1, 0] rfl) ?_
      exact fun h => w_X6_leap_60 x0 v1 σ5 h hk
noncomputable def f_X6_leap_13 (x0 x1 t0 : Int) (σ : zM) : Option zO :=
  zcvT (f_X5_need t0 σ) (fun n a σ1 => some (n + 1, zr a, σ1)) fun σ1 =>
  zgd (zis σ1 7 x0) <|
  zci (f_X5_now x0 σ1) fun v2 σ3 =>
  if v2 ≠ 46 then
    f_X6_leap_35 x0 x1 (-12) x0 σ3
  else
    f_X6_leap_35 x0 x1 (-11) x0 σ3
theorem w_X6_leap_13 {g : zG} {lv : Nat} {out : zO} (x0 x1 t0 : Int) (σ : zM) {r : zO} (h : f_X6_leap_13 x0 x1 t0 σ = some r) (hk : (fun o : zO => o = out) r) : Gj g MX6_leap (lv + 8) 13 [(0, zr x0), (1, zr x1)] [zi t0] σ out := by
  revert h
  unfold f_X6_leap_13
  refine gb_callVT (pc := 13) (as := [zi t0]) (rest := []) (zCl.of (zLk_SU (M := MX6_leap) (x := ⟨"LassoFinder$ModelReader", "need", "(Z)V"⟩) plX5_need.1 ⟨rfl, rfl⟩ rfl dX6_leap_13 q1083 q1084 q1085 q109 q1086) plX5_need (Nat.le_of_ble_eq_true rfl) (fun h => c_X5_need h)) (fun n a s0 h => by cases h; exact Or.inl ⟨rfl, hk⟩) (fun σ1 => ?_)
  refine zst_ (gj_aload_n 0 (pc := 16) dX6_leap_16 rfl) ?_
  refine zst_ (gj_aload_n 0 (pc := 17) dX6_leap_17 rfl) ?_
  refine gb_gd (fun hb => ?_)
  refine gb_callI (pc := 18) (as := [zr x0]) (rest := [zr x0]) (zCl.of (zLk_VU (M := MX6_leap) (ci := 6) (r := (RX6, TX6, 8)) (x := ⟨"LassoFinder$ModelReader", "now", "()C"⟩) plX5_now.1 ⟨rfl, rfl⟩ rfl rfl (zisE hb).1 (zisE hb).2 dX6_leap_18 q1050 q1051 q1054 q1053 q1055) plX5_now (Nat.le_of_ble_eq_true rfl) (fun h => c_X5_now h)) (fun v2 σ3 => ?_)
  refine zst_ (gj_bipush (pc := 21) dX6_leap_21 ⟨rfl, by decide⟩) ?_
  refine gb_if (gj_icmp_ne 32 (pc := 23) dX6_leap_23 (by decide)) ?_ ?_
  · refine zst_ (gj_enumL (pc := 32) (i := 10) (by decide) rfl rfl dX6_leap_32 q1300 rfl) ?_
    exact fun h => w_X6_leap_35 x0 x1 (-12) x0 σ3 h hk
  · refine zst_ (gj_enumL (pc := 26) (i := 9) (by decide) rfl rfl dX6_leap_26 q1298 rfl) ?_
    refine zst_ (gj_goto 35 (pc := 29) dX6_leap_29 (by decide)) ?_
    exact fun h => w_X6_leap_35 x0 x1 (-11) x0 σ3 h hk
noncomputable def f_X6_leap_8 (x0 x1 : Int) (σ : zM) : Option zO :=
  f_X6_leap_13 x0 x1 1 σ
theorem w_X6_leap_8 {g : zG} {lv : Nat} {out : zO} (x0 x1 : Int) (σ : zM) {r : zO} (h : f_X6_leap_8 x0 x1 σ = some r) (hk : (fun o : zO => o = out) r) : Gj g MX6_leap (lv + 8) 8 [(0, zr x0), (1, zr x1)] [] σ out := by
  revert h
  unfold f_X6_leap_8
  refine zst_ (gj_iconst (pc := 8) dX6_leap_8 (by decide)) ?_
  refine zst_ (gj_goto 13 (pc := 9) dX6_leap_9 (by decide)) ?_
  exact fun h => w_X6_leap_13 x0 x1 1 σ h hk
noncomputable def f_X6_leap (x0 x1 x2 : Int) (σ : zM) : Option zO :=
  if x1 = (-1) then
    f_X6_leap_8 x0 x1 σ
  else
    if x2 ≠ 0 then
      f_X6_leap_13 x0 x1 0 σ
    else
      f_X6_leap_8 x0 x1 σ
theorem c_X6_leap {g : zG} {lv : Nat} {x0 x1 x2 : Int} {σ : zM} {out : zO} (h : f_X6_leap x0 x1 x2 σ = some out) : Cj g (lv + 8) MX6_leap [zr x0, zr x1, zi x2] σ out := by
  refine cj_go (ls := [(0, zr x0), (1, zr x1), (2, zi x2)]) (by decide) (Nat.le_of_ble_eq_true rfl) rfl (zgen h (fun r hk => ?_))
  unfold f_X6_leap
  refine zst_ (gj_aload_n 1 (pc := 0) dX6_leap_0 rfl) ?_
  refine gb_if (gj_ifnull 8 (pc := 1) dX6_leap_1 (by decide)) ?_ ?_
  · refine zst_ (gj_sub [0, 1] rfl) ?_
    exact fun h => w_X6_leap_8 x0 x1 σ h hk
  · refine zst_ (gj_iload_n 2 (pc := 4) dX6_leap_4 rfl) ?_
    refine gb_if (gj_if_ne 12 (pc := 5) dX6_leap_5 (by decide)) ?_ ?_
    · refine zst_ (gj_iconst (pc := 12) dX6_leap_12 (by decide)) ?_
      refine zst_ (gj_sub [0, 1] rfl) ?_
      exact fun h => w_X6_leap_13 x0 x1 0 σ h hk
    · refine zst_ (gj_sub [0, 1] rfl) ?_
      exact fun h => w_X6_leap_8 x0 x1 σ h hk
theorem q135 : (Jvm.Cond.initialized "java/lang/Record") ∈ lw_all := lw_g (lw_at lw_m1 35 rfl) rfl
theorem q1339 : (Jvm.Cond.code ({ cls := "java/lang/Record", name := "<init>", desc := "()V" } : Jvm.MethodName) prog_35_method_1_code (1 : Nat) (Option.none : Option Jvm.ClassFile.FieldType)) ∈ lw_all := lw_g (lw_at lw_m6 39 rfl) rfl
theorem q1340 : (Jvm.Cond.methodLink "java/lang/Record" (1 : Nat) ({ cls := "java/lang/Object", name := "<init>", desc := "()V" } : Jvm.MethodName)) ∈ lw_all := lw_g (lw_at lw_m6 40 rfl) rfl
abbrev cJ22_init : ByteArray := prog_35_method_1_code
def yJ22_init : MethodName := ⟨RJ22, "<init>", "()V"⟩
theorem dJ22_init_0 : decode cJ22_init 0 = .ok (.aload_n 0, 1) := by decide +kernel
theorem dJ22_init_1 : decode cJ22_init 1 = .ok (.invokespecial 1, 3) := by decide +kernel
theorem dJ22_init_4 : decode cJ22_init 4 = .ok (.return_, 1) := by decide +kernel
abbrev MJ22_init : zT := (yJ22_init, cJ22_init, 1, (Option.none : Option Jvm.ClassFile.FieldType), [])
theorem plJ22_init : zplain MJ22_init 0 ∧ (zcodeW MJ22_init ∈ lw_all ∧ Cond.initialized MJ22_init.1.cls ∈ lw_all) := ⟨⟨by decide +kernel, by decide +kernel⟩, q1339, q135⟩
noncomputable def f_J22_init (x0 : Int) (σ : zM) : Option zO :=
  zgd (decide (0 ≤ x0)) <|
  some (0, ((3, 0) : zV), σ)
theorem c_J22_init {g : zG} {lv : Nat} {x0 : Int} {σ : zM} {out : zO} (h : f_J22_init x0 σ = some out) : Cj g (lv + 1) MJ22_init [zr x0] σ out := by
  refine cj_go (ls := [(0, zr x0)]) (by decide) (Nat.le_of_ble_eq_true rfl) rfl (zgen h (fun r hk => ?_))
  unfold f_J22_init
  refine zst_ (gj_aload_n 0 (pc := 0) dJ22_init_0 rfl) ?_
  refine gb_gd (fun hb => ?_)
  refine zst_ (gj_obj (pc := 1) (of_decide_eq_true hb) dJ22_init_1 q1340 q152 q153 (by omega) (Nat.le_of_ble_eq_true rfl)) ?_
  intro h
  cases h
  have hk : (0, ((3, 0) : zV), σ) = out := hk
  subst hk
  exact gj_vret (pc := 4) dJ22_init_4 rfl
theorem q136 : (Jvm.Cond.initialized "LassoFinder$Digit") ∈ lw_all := lw_g (lw_at lw_m1 36 rfl) rfl
theorem q1336 : (Jvm.Cond.code ({ cls := "LassoFinder$Digit", name := "<init>", desc := "(I)V" } : Jvm.MethodName) prog_4_method_1_code (2 : Nat) (Option.none : Option Jvm.ClassFile.FieldType)) ∈ lw_all := lw_g (lw_at lw_m6 36 rfl) rfl
theorem q1337 : (Jvm.Cond.methodLink "LassoFinder$Digit" (1 : Nat) ({ cls := "java/lang/Record", name := "<init>", desc := "()V" } : Jvm.MethodName)) ∈ lw_all := lw_g (lw_at lw_m6 37 rfl) rfl
theorem q1338 : (Jvm.Cond.instanceMethod ({ cls := "java/lang/Record", name := "<init>", desc := "()V" } : Jvm.MethodName)) ∈ lw_all := lw_g (lw_at lw_m6 38 rfl) rfl
theorem q1341 : (Jvm.Cond.fieldLink "LassoFinder$Digit" (7 : Nat) "LassoFinder$Digit" "number" "I") ∈ lw_all := lw_g (lw_at lw_m6 41 rfl) rfl
theorem fl1200 : zfl 1200 0 "LassoFinder$Digit" "number" "I" true := ⟨rfl, rfl, rfl⟩
theorem fr1200 {g : zG} {v : Int} : zok g (0, v) → zokt g (zft 1200) v := fun h => h
abbrev cX12_init : ByteArray := prog_4_method_1_code
def yX12_init : MethodName := ⟨RX12, "<init>", "(I)V"⟩
theorem dX12_init_0 : decode cX12_init 0 = .ok (.aload_n 0, 1) := by decide +kernel
theorem dX12_init_1 : decode cX12_init 1 = .ok (.invokespecial 1, 3) := by decide +kernel
theorem dX12_init_4 : decode cX12_init 4 = .ok (.aload_n 0, 1) := by decide +kernel
theorem dX12_init_5 : decode cX12_init 5 = .ok (.iload_n 1, 1) := by decide +kernel
theorem dX12_init_6 : decode cX12_init 6 = .ok (.putfield 7, 3) := by decide +kernel
theorem dX12_init_9 : decode cX12_init 9 = .ok (.return_, 1) := by decide +kernel
abbrev MX12_init : zT := (yX12_init, cX12_init, 2, (Option.none : Option Jvm.ClassFile.FieldType), [])
theorem plX12_init : zplain MX12_init 1 ∧ (zcodeW MX12_init ∈ lw_all ∧ Cond.initialized MX12_init.1.cls ∈ lw_all) := ⟨⟨by decide +kernel, by decide +kernel⟩, q1336, q136⟩
noncomputable def f_X12_init (x0 x1 : Int) (σ : zM) : Option zO :=
  zgd (decide (0 ≤ x0)) <|
  zcv (f_J22_init x0 σ) fun σ1 =>
  (zpf σ1 1200 x0 x1).bind fun σ2 =>
  some (0, ((3, 0) : zV), σ2)
theorem c_X12_init {g : zG} {lv : Nat} {x0 x1 : Int} {σ : zM} {out : zO} (h : f_X12_init x0 x1 σ = some out) : Cj g (lv + 2) MX12_init [zr x0, zi x1] σ out := by
  refine cj_go (ls := [(0, zr x0), (1, zi x1)]) (by decide) (Nat.le_of_ble_eq_true rfl) rfl (zgen h (fun r hk => ?_))
  unfold f_X12_init
  refine zst_ (gj_aload_n 0 (pc := 0) dX12_init_0 rfl) ?_
  refine gb_gd (fun hb => ?_)
  refine gb_callV (pc := 1) (as := [zr x0]) (rest := []) (zCl.of (zLk_I (M := MX12_init) plJ22_init.1 rfl (of_decide_eq_true hb) rfl rfl dX12_init_1 q1337 q1338 q1339) plJ22_init (Nat.le_of_ble_eq_true rfl) (fun h => c_J22_init h)) (fun σ1 => ?_)
  refine zst_ (gj_aload_n 0 (pc := 4) dX12_init_4 rfl) ?_
  refine zst_ (gj_iload_n 1 (pc := 5) dX12_init_5 rfl) ?_
  refine gb_putFi (pc := 6) fl1200 rfl rfl fr1200 dX12_init_6 q1341 (Or.inl rfl) (fun σ2 => ?_)
  intro h
  cases h
  have hk : (0, ((3, 0) : zV), σ2) = out := hk
  subst hk
  exact gj_vret (pc := 9) dX12_init_9 rfl
theorem q137 : (Jvm.Cond.initialized "LassoFinder$Name") ∈ lw_all := lw_g (lw_at lw_m1 37 rfl) rfl
theorem q1349 : (Jvm.Cond.code ({ cls := "LassoFinder$Name", name := "<init>", desc := "(I)V" } : Jvm.MethodName) prog_12_method_1_code (2 : Nat) (Option.none : Option Jvm.ClassFile.FieldType)) ∈ lw_all := lw_g (lw_at lw_m6 49 rfl) rfl
theorem q1350 : (Jvm.Cond.methodLink "LassoFinder$Name" (1 : Nat) ({ cls := "java/lang/Record", name := "<init>", desc := "()V" } : Jvm.MethodName)) ∈ lw_all := lw_g (lw_at lw_m6 50 rfl) rfl
theorem q1351 : (Jvm.Cond.fieldLink "LassoFinder$Name" (7 : Nat) "LassoFinder$Name" "name" "I") ∈ lw_all := lw_g (lw_at lw_m6 51 rfl) rfl
theorem fl1300 : zfl 1300 0 "LassoFinder$Name" "name" "I" true := ⟨rfl, rfl, rfl⟩
theorem fr1300 {g : zG} {v : Int} : zok g (0, v) → zokt g (zft 1300) v := fun h => h
abbrev cX13_init : ByteArray := prog_12_method_1_code
def yX13_init : MethodName := ⟨RX13, "<init>", "(I)V"⟩
theorem dX13_init_0 : decode cX13_init 0 = .ok (.aload_n 0, 1) := by decide +kernel
theorem dX13_init_1 : decode cX13_init 1 = .ok (.invokespecial 1, 3) := by decide +kernel
theorem dX13_init_4 : decode cX13_init 4 = .ok (.aload_n 0, 1) := by decide +kernel
theorem dX13_init_5 : decode cX13_init 5 = .ok (.iload_n 1, 1) := by decide +kernel
theorem dX13_init_6 : decode cX13_init 6 = .ok (.putfield 7, 3) := by decide +kernel
theorem dX13_init_9 : decode cX13_init 9 = .ok (.return_, 1) := by decide +kernel
abbrev MX13_init : zT := (yX13_init, cX13_init, 2, (Option.none : Option Jvm.ClassFile.FieldType), [])
theorem plX13_init : zplain MX13_init 1 ∧ (zcodeW MX13_init ∈ lw_all ∧ Cond.initialized MX13_init.1.cls ∈ lw_all) := ⟨⟨by decide +kernel, by decide +kernel⟩, q1349, q137⟩
noncomputable def f_X13_init (x0 x1 : Int) (σ : zM) : Option zO :=
  zgd (decide (0 ≤ x0)) <|
  zcv (f_J22_init x0 σ) fun σ1 =>
  (zpf σ1 1300 x0 x1).bind fun σ2 =>
  some (0, ((3, 0) : zV), σ2)
theorem c_X13_init {g : zG} {lv : Nat} {x0 x1 : Int} {σ : zM} {out : zO} (h : f_X13_init x0 x1 σ = some out) : Cj g (lv + 2) MX13_init [zr x0, zi x1] σ out := by
  refine cj_go (ls := [(0, zr x0), (1, zi x1)]) (by decide) (Nat.le_of_ble_eq_true rfl) rfl (zgen h (fun r hk => ?_))
  unfold f_X13_init
  refine zst_ (gj_aload_n 0 (pc := 0) dX13_init_0 rfl) ?_
  refine gb_gd (fun hb => ?_)
  refine gb_callV (pc := 1) (as := [zr x0]) (rest := []) (zCl.of (zLk_I (M := MX13_init) plJ22_init.1 rfl (of_decide_eq_true hb) rfl rfl dX13_init_1 q1350 q1338 q1339) plJ22_init (Nat.le_of_ble_eq_true rfl) (fun h => c_J22_init h)) (fun σ1 => ?_)
  refine zst_ (gj_aload_n 0 (pc := 4) dX13_init_4 rfl) ?_
  refine zst_ (gj_iload_n 1 (pc := 5) dX13_init_5 rfl) ?_
  refine gb_putFi (pc := 6) fl1300 rfl rfl fr1300 dX13_init_6 q1351 (Or.inl rfl) (fun σ2 => ?_)
  intro h
  cases h
  have hk : (0, ((3, 0) : zV), σ2) = out := hk
  subst hk
  exact gj_vret (pc := 9) dX13_init_9 rfl
theorem q138 : (Jvm.Cond.initialized "LassoFinder$Operation") ∈ lw_all := lw_g (lw_at lw_m1 38 rfl) rfl
theorem q1359 : (Jvm.Cond.code ({ cls := "LassoFinder$Operation", name := "<init>", desc := "(CLLassoFinder$Expression;LLassoFinder$Expression;)V" } : Jvm.MethodName) prog_14_method_1_code (4 : Nat) (Option.none : Option Jvm.ClassFile.FieldType)) ∈ lw_all := lw_g (lw_at lw_m6 59 rfl) rfl
theorem q1360 : (Jvm.Cond.methodLink "LassoFinder$Operation" (1 : Nat) ({ cls := "java/lang/Record", name := "<init>", desc := "()V" } : Jvm.MethodName)) ∈ lw_all := lw_g (lw_at lw_m6 60 rfl) rfl
theorem q1361 : (Jvm.Cond.fieldLink "LassoFinder$Operation" (7 : Nat) "LassoFinder$Operation" "sign" "C") ∈ lw_all := lw_g (lw_at lw_m6 61 rfl) rfl
theorem q1362 : (Jvm.Cond.fieldLink "LassoFinder$Operation" (13 : Nat) "LassoFinder$Operation" "a" "LLassoFinder$Expression;") ∈ lw_all := lw_g (lw_at lw_m6 62 rfl) rfl
theorem q1363 : (Jvm.Cond.fieldLink "LassoFinder$Operation" (17 : Nat) "LassoFinder$Operation" "b" "LLassoFinder$Expression;") ∈ lw_all := lw_g (lw_at lw_m6 63 rfl) rfl
theorem fl1400 : zfl 1400 0 "LassoFinder$Operation" "sign" "C" true := ⟨rfl, rfl, rfl⟩
theorem fr1400 {g : zG} {v : Int} (h : zch v = true) : zok g (0, v) → zokt g (zft 1400) v := fun _ => zchE h
theorem fl1401 : zfl 1401 2 "LassoFinder$Operation" "a" "LLassoFinder$Expression;" true := ⟨rfl, rfl, rfl⟩
theorem fr1401 {g : zG} {v : Int} : zok g (2, v) → zokt g (zft 1401) v := fun h => h
theorem fl1402 : zfl 1402 2 "LassoFinder$Operation" "b" "LLassoFinder$Expression;" true := ⟨rfl, rfl, rfl⟩
theorem fr1402 {g : zG} {v : Int} : zok g (2, v) → zokt g (zft 1402) v := fun h => h
abbrev cX14_init : ByteArray := prog_14_method_1_code
def yX14_init : MethodName := ⟨RX14, "<init>", "(CLLassoFinder$Expression;LLassoFinder$Expression;)V"⟩
theorem dX14_init_0 : decode cX14_init 0 = .ok (.aload_n 0, 1) := by decide +kernel
theorem dX14_init_1 : decode cX14_init 1 = .ok (.invokespecial 1, 3) := by decide +kernel
theorem dX14_init_4 : decode cX14_init 4 = .ok (.aload_n 0, 1) := by decide +kernel
theorem dX14_init_5 : decode cX14_init 5 = .ok (.iload_n 1, 1) := by decide +kernel
theorem dX14_init_6 : decode cX14_init 6 = .ok (.putfield 7, 3) := by decide +kernel
theorem dX14_init_9 : decode cX14_init 9 = .ok (.aload_n 0, 1) := by decide +kernel
theorem dX14_init_10 : decode cX14_init 10 = .ok (.aload_n 2, 1) := by decide +kernel
theorem dX14_init_11 : decode cX14_init 11 = .ok (.putfield 13, 3) := by decide +kernel
theorem dX14_init_14 : decode cX14_init 14 = .ok (.aload_n 0, 1) := by decide +kernel
theorem dX14_init_15 : decode cX14_init 15 = .ok (.aload_n 3, 1) := by decide +kernel
theorem dX14_init_16 : decode cX14_init 16 = .ok (.putfield 17, 3) := by decide +kernel
theorem dX14_init_19 : decode cX14_init 19 = .ok (.return_, 1) := by decide +kernel
abbrev MX14_init : zT := (yX14_init, cX14_init, 4, (Option.none : Option Jvm.ClassFile.FieldType), [])
theorem plX14_init : zplain MX14_init 3 ∧ (zcodeW MX14_init ∈ lw_all ∧ Cond.initialized MX14_init.1.cls ∈ lw_all) := ⟨⟨by decide +kernel, by decide +kernel⟩, q1359, q138⟩
noncomputable def f_X14_init (x0 x1 x2 x3 : Int) (σ : zM) : Option zO :=
  zgd (decide (0 ≤ x0)) <|
  zcv (f_J22_init x0 σ) fun σ1 =>
  zgd (zch x1) <|
  (zpf σ1 1400 x0 x1).bind fun σ2 =>
  (zpf σ2 1401 x0 x2).bind fun σ3 =>
  (zpf σ3 1402 x0 x3).bind fun σ4 =>
  some (0, ((3, 0) : zV), σ4)
theorem c_X14_init {g : zG} {lv : Nat} {x0 x1 x2 x3 : Int} {σ : zM} {out : zO} (h : f_X14_init x0 x1 x2 x3 σ = some out) : Cj g (lv + 2) MX14_init [zr x0, zi x1, zr x2, zr x3] σ out := by
  refine cj_go (ls := [(0, zr x0), (1, zi x1), (2, zr x2), (3, zr x3)]) (by decide) (Nat.le_of_ble_eq_true rfl) rfl (zgen h (fun r hk => ?_))
  unfold f_X14_init
  refine zst_ (gj_aload_n 0 (pc := 0) dX14_init_0 rfl) ?_
  refine gb_gd (fun hb => ?_)
  refine gb_callV (pc := 1) (as := [zr x0]) (rest := []) (zCl.of (zLk_I (M := MX14_init) plJ22_init.1 rfl (of_decide_eq_true hb) rfl rfl dX14_init_1 q1360 q1338 q1339) plJ22_init (Nat.le_of_ble_eq_true rfl) (fun h => c_J22_init h)) (fun σ1 => ?_)
  refine zst_ (gj_aload_n 0 (pc := 4) dX14_init_4 rfl) ?_
  refine zst_ (gj_iload_n 1 (pc := 5) dX14_init_5 rfl) ?_
  refine gb_gd (fun hb => ?_)
  refine gb_putFi (pc := 6) fl1400 rfl rfl (fr1400 hb) dX14_init_6 q1361 (Or.inl rfl) (fun σ2 => ?_)
  refine zst_ (gj_aload_n 0 (pc := 9) dX14_init_9 rfl) ?_
  refine zst_ (gj_aload_n 2 (pc := 10) dX14_init_10 rfl) ?_
  refine gb_putFi (pc := 11) fl1401 rfl rfl fr1401 dX14_init_11 q1362 (Or.inl rfl) (fun σ3 => ?_)
  refine zst_ (gj_aload_n 0 (pc := 14) dX14_init_14 rfl) ?_
  refine zst_ (gj_aload_n 3 (pc := 15) dX14_init_15 rfl) ?_
  refine gb_putFi (pc := 16) fl1402 rfl rfl fr1402 dX14_init_16 q1363 (Or.inl rfl) (fun σ4 => ?_)
  intro h
  cases h
  have hk : (0, ((3, 0) : zV), σ4) = out := hk
  subst hk
  exact gj_vret (pc := 19) dX14_init_19 rfl
theorem q270 : (Jvm.Cond.fieldLinkNest "LassoFinder$Reader" (87 : Nat) "LassoFinder$Model" "sorts" "[I" "LassoFinder") ∈ lw_tbl := lw_at lw_m1 170 rfl
theorem q689 : (Jvm.Cond.fieldLink "LassoFinder$Reader" (17 : Nat) "LassoFinder$Reader" "model" "LLassoFinder$Model;") ∈ lw_all := lw_g (lw_at lw_m3 109 rfl) rfl
theorem q706 : (Jvm.Cond.fieldLink "LassoFinder$Reader" (50 : Nat) "LassoFinder$Reader" "round" "I") ∈ lw_all := lw_g (lw_at lw_m3 126 rfl) rfl
theorem q707 : (Jvm.Cond.fieldLink "LassoFinder$Reader" (53 : Nat) "LassoFinder$Reader" "parts" "I") ∈ lw_all := lw_g (lw_at lw_m3 127 rfl) rfl
theorem q1318 : (Jvm.Cond.methodLink "LassoFinder$Reader" (56 : Nat) ({ cls := "LassoFinder$Reader", name := "expression", desc := "(LLassoFinder$Reader;)LLassoFinder$Expression;" } : Jvm.MethodName)) ∈ lw_all := lw_g (lw_at lw_m6 18 rfl) rfl
theorem q1319 : (Jvm.Cond.static ({ cls := "LassoFinder$Reader", name := "expression", desc := "(LLassoFinder$Reader;)LLassoFinder$Expression;" } : Jvm.MethodName)) ∈ lw_all := lw_g (lw_at lw_m6 19 rfl) rfl
theorem q1320 : (Jvm.Cond.code ({ cls := "LassoFinder$Reader", name := "expression", desc := "(LLassoFinder$Reader;)LLassoFinder$Expression;" } : Jvm.MethodName) prog_16_method_9_code (3 : Nat) (Option.some (Jvm.ClassFile.FieldType.object "LassoFinder$Expression"))) ∈ lw_all := lw_g (lw_at lw_m6 20 rfl) rfl
theorem q1321 : (Jvm.Cond.methodLink "LassoFinder$Reader" (60 : Nat) ({ cls := "LassoFinder$Reader", name := "sum", desc := "(LLassoFinder$Reader;)LLassoFinder$Expression;" } : Jvm.MethodName)) ∈ lw_all := lw_g (lw_at lw_m6 21 rfl) rfl
theorem q1322 : (Jvm.Cond.static ({ cls := "LassoFinder$Reader", name := "sum", desc := "(LLassoFinder$Reader;)LLassoFinder$Expression;" } : Jvm.MethodName)) ∈ lw_all := lw_g (lw_at lw_m6 22 rfl) rfl
theorem q1323 : (Jvm.Cond.code ({ cls := "LassoFinder$Reader", name := "sum", desc := "(LLassoFinder$Reader;)LLassoFinder$Expression;" } : Jvm.MethodName) prog_16_method_10_code (3 : Nat) (Option.some (Jvm.ClassFile.FieldType.object "LassoFinder$Expression"))) ∈ lw_all := lw_g (lw_at lw_m6 23 rfl) rfl
theorem q1324 : (Jvm.Cond.methodLink "LassoFinder$Reader" (68 : Nat) ({ cls := "LassoFinder$Reader", name := "product", desc := "(LLassoFinder$Reader;)LLassoFinder$Expression;" } : Jvm.MethodName)) ∈ lw_all := lw_g (lw_at lw_m6 24 rfl) rfl
theorem q1325 : (Jvm.Cond.static ({ cls := "LassoFinder$Reader", name := "product", desc := "(LLassoFinder$Reader;)LLassoFinder$Expression;" } : Jvm.MethodName)) ∈ lw_all := lw_g (lw_at lw_m6 25 rfl) rfl
theorem q1326 : (Jvm.Cond.code ({ cls := "LassoFinder$Reader", name := "product", desc := "(LLassoFinder$Reader;)LLassoFinder$Expression;" } : Jvm.MethodName) prog_16_method_11_code (2 : Nat) (Option.some (Jvm.ClassFile.FieldType.object "LassoFinder$Expression"))) ∈ lw_all := lw_g (lw_at lw_m6 26 rfl) rfl
theorem q1327 : (Jvm.Cond.methodLink "LassoFinder$Reader" (71 : Nat) ({ cls := "LassoFinder$Reader", name := "part", desc := "(LLassoFinder$Reader;)LLassoFinder$Expression;" } : Jvm.MethodName)) ∈ lw_all := lw_g (lw_at lw_m6 27 rfl) rfl
theorem q1328 : (Jvm.Cond.static ({ cls := "LassoFinder$Reader", name := "part", desc := "(LLassoFinder$Reader;)LLassoFinder$Expression;" } : Jvm.MethodName)) ∈ lw_all := lw_g (lw_at lw_m6 28 rfl) rfl
theorem q1329 : (Jvm.Cond.code ({ cls := "LassoFinder$Reader", name := "part", desc := "(LLassoFinder$Reader;)LLassoFinder$Expression;" } : Jvm.MethodName) prog_16_method_12_code (3 : Nat) (Option.some (Jvm.ClassFile.FieldType.object "LassoFinder$Expression"))) ∈ lw_all := lw_g (lw_at lw_m6 29 rfl) rfl
theorem q1330 : (Jvm.Cond.methodLink "LassoFinder$Reader" (74 : Nat) ({ cls := "LassoFinder$Reader", name := "sign", desc := "(C)V" } : Jvm.MethodName)) ∈ lw_all := lw_g (lw_at lw_m6 30 rfl) rfl
theorem q1331 : (Jvm.Cond.classLink "LassoFinder$Reader" (78 : Nat) "LassoFinder$Digit") ∈ lw_all := lw_g (lw_at lw_m6 31 rfl) rfl
theorem q1332 : (Jvm.Cond.instantiable "LassoFinder$Digit" (1 : Nat)) ∈ lw_all := lw_g (lw_at lw_m6 32 rfl) rfl
theorem q1333 : (Jvm.Cond.methodLink "LassoFinder$Reader" (80 : Nat) ({ cls := "LassoFinder$Reader", name := "letter", desc := "(CI)I" } : Jvm.MethodName)) ∈ lw_all := lw_g (lw_at lw_m6 33 rfl) rfl
theorem q1334 : (Jvm.Cond.methodLinkNest "LassoFinder$Reader" (84 : Nat) ({ cls := "LassoFinder$Digit", name := "<init>", desc := "(I)V" } : Jvm.MethodName) "LassoFinder") ∈ lw_tbl := lw_at lw_m6 34 rfl
theorem q1335 : (Jvm.Cond.instanceMethod ({ cls := "LassoFinder$Digit", name := "<init>", desc := "(I)V" } : Jvm.MethodName)) ∈ lw_all := lw_g (lw_at lw_m6 35 rfl) rfl
theorem q1345 : (Jvm.Cond.classLink "LassoFinder$Reader" (93 : Nat) "LassoFinder$Name") ∈ lw_all := lw_g (lw_at lw_m6 45 rfl) rfl
theorem q1346 : (Jvm.Cond.instantiable "LassoFinder$Name" (1 : Nat)) ∈ lw_all := lw_g (lw_at lw_m6 46 rfl) rfl
theorem q1347 : (Jvm.Cond.methodLinkNest "LassoFinder$Reader" (95 : Nat) ({ cls := "LassoFinder$Name", name := "<init>", desc := "(I)V" } : Jvm.MethodName) "LassoFinder") ∈ lw_tbl := lw_at lw_m6 47 rfl
theorem q1348 : (Jvm.Cond.instanceMethod ({ cls := "LassoFinder$Name", name := "<init>", desc := "(I)V" } : Jvm.MethodName)) ∈ lw_all := lw_g (lw_at lw_m6 48 rfl) rfl
theorem q1355 : (Jvm.Cond.classLink "LassoFinder$Reader" (63 : Nat) "LassoFinder$Operation") ∈ lw_all := lw_g (lw_at lw_m6 55 rfl) rfl
theorem q1356 : (Jvm.Cond.instantiable "LassoFinder$Operation" (3 : Nat)) ∈ lw_all := lw_g (lw_at lw_m6 56 rfl) rfl
theorem q1357 : (Jvm.Cond.methodLinkNest "LassoFinder$Reader" (65 : Nat) ({ cls := "LassoFinder$Operation", name := "<init>", desc := "(CLLassoFinder$Expression;LLassoFinder$Expression;)V" } : Jvm.MethodName) "LassoFinder") ∈ lw_tbl := lw_at lw_m6 57 rfl
theorem q1358 : (Jvm.Cond.instanceMethod ({ cls := "LassoFinder$Operation", name := "<init>", desc := "(CLLassoFinder$Expression;LLassoFinder$Expression;)V" } : Jvm.MethodName)) ∈ lw_all := lw_g (lw_at lw_m6 58 rfl) rfl
theorem q2465 : (Jvm.Cond.selects "LassoFinder$FormulaReader" ({ cls := "LassoFinder$Reader", name := "sign", desc := "(C)V" } : Jvm.MethodName) ({ cls := "LassoFinder$Reader", name := "sign", desc := "(C)V" } : Jvm.MethodName)) ∈ lw_all := lw_g (lw_at lw_m10 205 rfl) rfl
theorem q2466 : (Jvm.Cond.selects "LassoFinder$ModelReader" ({ cls := "LassoFinder$Reader", name := "sign", desc := "(C)V" } : Jvm.MethodName) ({ cls := "LassoFinder$Reader", name := "sign", desc := "(C)V" } : Jvm.MethodName)) ∈ lw_all := lw_g (lw_at lw_m10 206 rfl) rfl
theorem q2468 : (Jvm.Cond.selects "LassoFinder$FormulaReader" ({ cls := "LassoFinder$Reader", name := "letter", desc := "(CI)I" } : Jvm.MethodName) ({ cls := "LassoFinder$Reader", name := "letter", desc := "(CI)I" } : Jvm.MethodName)) ∈ lw_all := lw_g (lw_at lw_m10 208 rfl) rfl
theorem q2469 : (Jvm.Cond.selects "LassoFinder$ModelReader" ({ cls := "LassoFinder$Reader", name := "letter", desc := "(CI)I" } : Jvm.MethodName) ({ cls := "LassoFinder$Reader", name := "letter", desc := "(CI)I" } : Jvm.MethodName)) ∈ lw_all := lw_g (lw_at lw_m10 209 rfl) rfl
theorem fl503 : zfl 503 0 "LassoFinder$Reader" "round" "I" false := ⟨rfl, rfl, rfl⟩
theorem fr503 {g : zG} {v : Int} : zok g (0, v) → zokt g (zft 503) v := fun h => h
theorem fl504 : zfl 504 0 "LassoFinder$Reader" "parts" "I" false := ⟨rfl, rfl, rfl⟩
theorem fr504 {g : zG} {v : Int} : zok g (0, v) → zokt g (zft 504) v := fun h => h
abbrev cX5_expression : ByteArray := prog_16_method_9_code
def yX5_expression : MethodName := ⟨RX5, "expression", "(LLassoFinder$Reader;)LLassoFinder$Expression;"⟩
theorem dX5_expression_0 : decode cX5_expression 0 = .ok (.aload_n 0, 1) := by decide +kernel
theorem dX5_expression_1 : decode cX5_expression 1 = .ok (.invokestatic 60, 3) := by decide +kernel
theorem dX5_expression_4 : decode cX5_expression 4 = .ok (.astore_n 1, 1) := by decide +kernel
theorem dX5_expression_5 : decode cX5_expression 5 = .ok (.aload_n 0, 1) := by decide +kernel
theorem dX5_expression_6 : decode cX5_expression 6 = .ok (.invokevirtual 38, 3) := by decide +kernel
theorem dX5_expression_9 : decode cX5_expression 9 = .ok (.istore_n 2, 1) := by decide +kernel
theorem dX5_expression_10 : decode cX5_expression 10 = .ok (.iload_n 2, 1) := by decide +kernel
theorem dX5_expression_11 : decode cX5_expression 11 = .ok (.bipush 61, 2) := by decide +kernel
theorem dX5_expression_13 : decode cX5_expression 13 = .ok (.if_icmp .eq 11, 3) := by decide +kernel
theorem dX5_expression_16 : decode cX5_expression 16 = .ok (.iload_n 2, 1) := by decide +kernel
theorem dX5_expression_17 : decode cX5_expression 17 = .ok (.bipush 60, 2) := by decide +kernel
theorem dX5_expression_19 : decode cX5_expression 19 = .ok (.if_icmp .eq 5, 3) := by decide +kernel
theorem dX5_expression_22 : decode cX5_expression 22 = .ok (.aload_n 1, 1) := by decide +kernel
theorem dX5_expression_23 : decode cX5_expression 23 = .ok (.areturn, 1) := by decide +kernel
theorem dX5_expression_24 : decode cX5_expression 24 = .ok (.aload_n 0, 1) := by decide +kernel
theorem dX5_expression_25 : decode cX5_expression 25 = .ok (.dup, 1) := by decide +kernel
theorem dX5_expression_26 : decode cX5_expression 26 = .ok (.getfield 21, 3) := by decide +kernel
theorem dX5_expression_29 : decode cX5_expression 29 = .ok (.iconst 1, 1) := by decide +kernel
theorem dX5_expression_30 : decode cX5_expression 30 = .ok (.iadd, 1) := by decide +kernel
theorem dX5_expression_31 : decode cX5_expression 31 = .ok (.putfield 21, 3) := by decide +kernel
theorem dX5_expression_34 : decode cX5_expression 34 = .ok (.new 63, 3) := by decide +kernel
theorem dX5_expression_37 : decode cX5_expression 37 = .ok (.dup, 1) := by decide +kernel
theorem dX5_expression_38 : decode cX5_expression 38 = .ok (.iload_n 2, 1) := by decide +kernel
theorem dX5_expression_39 : decode cX5_expression 39 = .ok (.aload_n 1, 1) := by decide +kernel
theorem dX5_expression_40 : decode cX5_expression 40 = .ok (.aload_n 0, 1) := by decide +kernel
theorem dX5_expression_41 : decode cX5_expression 41 = .ok (.invokestatic 60, 3) := by decide +kernel
theorem dX5_expression_44 : decode cX5_expression 44 = .ok (.invokespecial 65, 3) := by decide +kernel
theorem dX5_expression_47 : decode cX5_expression 47 = .ok (.areturn, 1) := by decide +kernel
abbrev MX5_expression : zT := (yX5_expression, cX5_expression, 3, (Option.some (Jvm.ClassFile.FieldType.object "LassoFinder$Expression")), [])
theorem plX5_expression : zplain MX5_expression 1 ∧ (zcodeW MX5_expression ∈ lw_all ∧ Cond.initialized MX5_expression.1.cls ∈ lw_all) := ⟨⟨by decide +kernel, by decide +kernel⟩, q1320, q109⟩
abbrev cX5_part : ByteArray := prog_16_method_12_code
def yX5_part : MethodName := ⟨RX5, "part", "(LLassoFinder$Reader;)LLassoFinder$Expression;"⟩
theorem dX5_part_0 : decode cX5_part 0 = .ok (.aload_n 0, 1) := by decide +kernel
theorem dX5_part_1 : decode cX5_part 1 = .ok (.invokevirtual 38, 3) := by decide +kernel
theorem dX5_part_4 : decode cX5_part 4 = .ok (.istore_n 1, 1) := by decide +kernel
theorem dX5_part_5 : decode cX5_part 5 = .ok (.iload_n 1, 1) := by decide +kernel
theorem dX5_part_6 : decode cX5_part 6 = .ok (.bipush 40, 2) := by decide +kernel
theorem dX5_part_8 : decode cX5_part 8 = .ok (.if_icmp .ne 62, 3) := by decide +kernel
theorem dX5_part_11 : decode cX5_part 11 = .ok (.aload_n 0, 1) := by decide +kernel
theorem dX5_part_12 : decode cX5_part 12 = .ok (.getfield 50, 3) := by decide +kernel
theorem dX5_part_15 : decode cX5_part 15 = .ok (.iconst 4, 1) := by decide +kernel
theorem dX5_part_16 : decode cX5_part 16 = .ok (.if_icmp .ge 7, 3) := by decide +kernel
theorem dX5_part_19 : decode cX5_part 19 = .ok (.iconst 1, 1) := by decide +kernel
theorem dX5_part_20 : decode cX5_part 20 = .ok (.goto 4, 3) := by decide +kernel
theorem dX5_part_23 : decode cX5_part 23 = .ok (.iconst 0, 1) := by decide +kernel
theorem dX5_part_24 : decode cX5_part 24 = .ok (.invokestatic 46, 3) := by decide +kernel
theorem dX5_part_27 : decode cX5_part 27 = .ok (.aload_n 0, 1) := by decide +kernel
theorem dX5_part_28 : decode cX5_part 28 = .ok (.dup, 1) := by decide +kernel
theorem dX5_part_29 : decode cX5_part 29 = .ok (.getfield 50, 3) := by decide +kernel
theorem dX5_part_32 : decode cX5_part 32 = .ok (.iconst 1, 1) := by decide +kernel
theorem dX5_part_33 : decode cX5_part 33 = .ok (.iadd, 1) := by decide +kernel
theorem dX5_part_34 : decode cX5_part 34 = .ok (.putfield 50, 3) := by decide +kernel
theorem dX5_part_37 : decode cX5_part 37 = .ok (.aload_n 0, 1) := by decide +kernel
theorem dX5_part_38 : decode cX5_part 38 = .ok (.dup, 1) := by decide +kernel
theorem dX5_part_39 : decode cX5_part 39 = .ok (.getfield 21, 3) := by decide +kernel
theorem dX5_part_42 : decode cX5_part 42 = .ok (.iconst 1, 1) := by decide +kernel
theorem dX5_part_43 : decode cX5_part 43 = .ok (.iadd, 1) := by decide +kernel
theorem dX5_part_44 : decode cX5_part 44 = .ok (.putfield 21, 3) := by decide +kernel
theorem dX5_part_47 : decode cX5_part 47 = .ok (.aload_n 0, 1) := by decide +kernel
theorem dX5_part_48 : decode cX5_part 48 = .ok (.invokestatic 56, 3) := by decide +kernel
theorem dX5_part_51 : decode cX5_part 51 = .ok (.astore_n 2, 1) := by decide +kernel
theorem dX5_part_52 : decode cX5_part 52 = .ok (.aload_n 0, 1) := by decide +kernel
theorem dX5_part_53 : decode cX5_part 53 = .ok (.bipush 41, 2) := by decide +kernel
theorem dX5_part_55 : decode cX5_part 55 = .ok (.invokevirtual 74, 3) := by decide +kernel
theorem dX5_part_58 : decode cX5_part 58 = .ok (.aload_n 0, 1) := by decide +kernel
theorem dX5_part_59 : decode cX5_part 59 = .ok (.dup, 1) := by decide +kernel
theorem dX5_part_60 : decode cX5_part 60 = .ok (.getfield 50, 3) := by decide +kernel
theorem dX5_part_63 : decode cX5_part 63 = .ok (.iconst 1, 1) := by decide +kernel
theorem dX5_part_64 : decode cX5_part 64 = .ok (.isub, 1) := by decide +kernel
theorem dX5_part_65 : decode cX5_part 65 = .ok (.putfield 50, 3) := by decide +kernel
theorem dX5_part_68 : decode cX5_part 68 = .ok (.aload_n 2, 1) := by decide +kernel
theorem dX5_part_69 : decode cX5_part 69 = .ok (.areturn, 1) := by decide +kernel
theorem dX5_part_70 : decode cX5_part 70 = .ok (.aload_n 0, 1) := by decide +kernel
theorem dX5_part_71 : decode cX5_part 71 = .ok (.getfield 53, 3) := by decide +kernel
theorem dX5_part_74 : decode cX5_part 74 = .ok (.bipush 12, 2) := by decide +kernel
theorem dX5_part_76 : decode cX5_part 76 = .ok (.if_icmp .ge 7, 3) := by decide +kernel
theorem dX5_part_79 : decode cX5_part 79 = .ok (.iconst 1, 1) := by decide +kernel
theorem dX5_part_80 : decode cX5_part 80 = .ok (.goto 4, 3) := by decide +kernel
theorem dX5_part_83 : decode cX5_part 83 = .ok (.iconst 0, 1) := by decide +kernel
theorem dX5_part_84 : decode cX5_part 84 = .ok (.invokestatic 46, 3) := by decide +kernel
theorem dX5_part_87 : decode cX5_part 87 = .ok (.aload_n 0, 1) := by decide +kernel
theorem dX5_part_88 : decode cX5_part 88 = .ok (.dup, 1) := by decide +kernel
theorem dX5_part_89 : decode cX5_part 89 = .ok (.getfield 53, 3) := by decide +kernel
theorem dX5_part_92 : decode cX5_part 92 = .ok (.iconst 1, 1) := by decide +kernel
theorem dX5_part_93 : decode cX5_part 93 = .ok (.iadd, 1) := by decide +kernel
theorem dX5_part_94 : decode cX5_part 94 = .ok (.putfield 53, 3) := by decide +kernel
theorem dX5_part_97 : decode cX5_part 97 = .ok (.iload_n 1, 1) := by decide +kernel
theorem dX5_part_98 : decode cX5_part 98 = .ok (.bipush 48, 2) := by decide +kernel
theorem dX5_part_100 : decode cX5_part 100 = .ok (.if_icmp .lt 25, 3) := by decide +kernel
theorem dX5_part_103 : decode cX5_part 103 = .ok (.iload_n 1, 1) := by decide +kernel
theorem dX5_part_104 : decode cX5_part 104 = .ok (.bipush 55, 2) := by decide +kernel
theorem dX5_part_106 : decode cX5_part 106 = .ok (.if_icmp .gt 19, 3) := by decide +kernel
theorem dX5_part_109 : decode cX5_part 109 = .ok (.new 78, 3) := by decide +kernel
theorem dX5_part_112 : decode cX5_part 112 = .ok (.dup, 1) := by decide +kernel
theorem dX5_part_113 : decode cX5_part 113 = .ok (.aload_n 0, 1) := by decide +kernel
theorem dX5_part_114 : decode cX5_part 114 = .ok (.bipush 48, 2) := by decide +kernel
theorem dX5_part_116 : decode cX5_part 116 = .ok (.bipush 8, 2) := by decide +kernel
theorem dX5_part_118 : decode cX5_part 118 = .ok (.invokevirtual 80, 3) := by decide +kernel
theorem dX5_part_121 : decode cX5_part 121 = .ok (.invokespecial 84, 3) := by decide +kernel
theorem dX5_part_124 : decode cX5_part 124 = .ok (.areturn, 1) := by decide +kernel
theorem dX5_part_125 : decode cX5_part 125 = .ok (.iload_n 1, 1) := by decide +kernel
theorem dX5_part_126 : decode cX5_part 126 = .ok (.bipush 97, 2) := by decide +kernel
theorem dX5_part_128 : decode cX5_part 128 = .ok (.if_icmp .lt 28, 3) := by decide +kernel
theorem dX5_part_131 : decode cX5_part 131 = .ok (.iload_n 1, 1) := by decide +kernel
theorem dX5_part_132 : decode cX5_part 132 = .ok (.bipush 104, 2) := by decide +kernel
theorem dX5_part_134 : decode cX5_part 134 = .ok (.if_icmp .gt 22, 3) := by decide +kernel
theorem dX5_part_137 : decode cX5_part 137 = .ok (.aload_n 0, 1) := by decide +kernel
theorem dX5_part_138 : decode cX5_part 138 = .ok (.getfield 17, 3) := by decide +kernel
theorem dX5_part_141 : decode cX5_part 141 = .ok (.getfield 87, 3) := by decide +kernel
theorem dX5_part_144 : decode cX5_part 144 = .ok (.iload_n 1, 1) := by decide +kernel
theorem dX5_part_145 : decode cX5_part 145 = .ok (.bipush 97, 2) := by decide +kernel
theorem dX5_part_147 : decode cX5_part 147 = .ok (.isub, 1) := by decide +kernel
theorem dX5_part_148 : decode cX5_part 148 = .ok (.iaload, 1) := by decide +kernel
theorem dX5_part_149 : decode cX5_part 149 = .ok (.ifCond .eq 7, 3) := by decide +kernel
theorem dX5_part_152 : decode cX5_part 152 = .ok (.iconst 1, 1) := by decide +kernel
theorem dX5_part_153 : decode cX5_part 153 = .ok (.goto 4, 3) := by decide +kernel
theorem dX5_part_156 : decode cX5_part 156 = .ok (.iconst 0, 1) := by decide +kernel
theorem dX5_part_157 : decode cX5_part 157 = .ok (.invokestatic 46, 3) := by decide +kernel
theorem dX5_part_160 : decode cX5_part 160 = .ok (.new 93, 3) := by decide +kernel
theorem dX5_part_163 : decode cX5_part 163 = .ok (.dup, 1) := by decide +kernel
theorem dX5_part_164 : decode cX5_part 164 = .ok (.aload_n 0, 1) := by decide +kernel
theorem dX5_part_165 : decode cX5_part 165 = .ok (.bipush 97, 2) := by decide +kernel
theorem dX5_part_167 : decode cX5_part 167 = .ok (.bipush 8, 2) := by decide +kernel
theorem dX5_part_169 : decode cX5_part 169 = .ok (.invokevirtual 80, 3) := by decide +kernel
theorem dX5_part_172 : decode cX5_part 172 = .ok (.invokespecial 95, 3) := by decide +kernel
theorem dX5_part_175 : decode cX5_part 175 = .ok (.areturn, 1) := by decide +kernel
abbrev MX5_part : zT := (yX5_part, cX5_part, 3, (Option.some (Jvm.ClassFile.FieldType.object "LassoFinder$Expression")), [])
theorem plX5_part : zplain MX5_part 1 ∧ (zcodeW MX5_part ∈ lw_all ∧ Cond.initialized MX5_part.1.cls ∈ lw_all) := ⟨⟨by decide +kernel, by decide +kernel⟩, q1329, q109⟩
abbrev cX5_product : ByteArray := prog_16_method_11_code
def yX5_product : MethodName := ⟨RX5, "product", "(LLassoFinder$Reader;)LLassoFinder$Expression;"⟩
theorem dX5_product_0 : decode cX5_product 0 = .ok (.aload_n 0, 1) := by decide +kernel
theorem dX5_product_1 : decode cX5_product 1 = .ok (.invokestatic 71, 3) := by decide +kernel
theorem dX5_product_4 : decode cX5_product 4 = .ok (.astore_n 1, 1) := by decide +kernel
theorem dX5_product_5 : decode cX5_product 5 = .ok (.aload_n 0, 1) := by decide +kernel
theorem dX5_product_6 : decode cX5_product 6 = .ok (.bipush 42, 2) := by decide +kernel
theorem dX5_product_8 : decode cX5_product 8 = .ok (.invokevirtual 42, 3) := by decide +kernel
theorem dX5_product_11 : decode cX5_product 11 = .ok (.ifCond .eq 21, 3) := by decide +kernel
theorem dX5_product_14 : decode cX5_product 14 = .ok (.new 63, 3) := by decide +kernel
theorem dX5_product_17 : decode cX5_product 17 = .ok (.dup, 1) := by decide +kernel
theorem dX5_product_18 : decode cX5_product 18 = .ok (.bipush 42, 2) := by decide +kernel
theorem dX5_product_20 : decode cX5_product 20 = .ok (.aload_n 1, 1) := by decide +kernel
theorem dX5_product_21 : decode cX5_product 21 = .ok (.aload_n 0, 1) := by decide +kernel
theorem dX5_product_22 : decode cX5_product 22 = .ok (.invokestatic 71, 3) := by decide +kernel
theorem dX5_product_25 : decode cX5_product 25 = .ok (.invokespecial 65, 3) := by decide +kernel
theorem dX5_product_28 : decode cX5_product 28 = .ok (.astore_n 1, 1) := by decide +kernel
theorem dX5_product_29 : decode cX5_product 29 = .ok (.goto (-24), 3) := by decide +kernel
theorem dX5_product_32 : decode cX5_product 32 = .ok (.aload_n 1, 1) := by decide +kernel
theorem dX5_product_33 : decode cX5_product 33 = .ok (.areturn, 1) := by decide +kernel
abbrev MX5_product : zT := (yX5_product, cX5_product, 2, (Option.some (Jvm.ClassFile.FieldType.object "LassoFinder$Expression")), [])
theorem plX5_product : zplain MX5_product 1 ∧ (zcodeW MX5_product ∈ lw_all ∧ Cond.initialized MX5_product.1.cls ∈ lw_all) := ⟨⟨by decide +kernel, by decide +kernel⟩, q1326, q109⟩
abbrev cX5_sum : ByteArray := prog_16_method_10_code
def yX5_sum : MethodName := ⟨RX5, "sum", "(LLassoFinder$Reader;)LLassoFinder$Expression;"⟩
theorem dX5_sum_0 : decode cX5_sum 0 = .ok (.aload_n 0, 1) := by decide +kernel
theorem dX5_sum_1 : decode cX5_sum 1 = .ok (.invokestatic 68, 3) := by decide +kernel
theorem dX5_sum_4 : decode cX5_sum 4 = .ok (.astore_n 1, 1) := by decide +kernel
theorem dX5_sum_5 : decode cX5_sum 5 = .ok (.aload_n 0, 1) := by decide +kernel
theorem dX5_sum_6 : decode cX5_sum 6 = .ok (.invokevirtual 38, 3) := by decide +kernel
theorem dX5_sum_9 : decode cX5_sum 9 = .ok (.istore_n 2, 1) := by decide +kernel
theorem dX5_sum_10 : decode cX5_sum 10 = .ok (.iload_n 2, 1) := by decide +kernel
theorem dX5_sum_11 : decode cX5_sum 11 = .ok (.bipush 43, 2) := by decide +kernel
theorem dX5_sum_13 : decode cX5_sum 13 = .ok (.if_icmp .eq 9, 3) := by decide +kernel
theorem dX5_sum_16 : decode cX5_sum 16 = .ok (.iload_n 2, 1) := by decide +kernel
theorem dX5_sum_17 : decode cX5_sum 17 = .ok (.bipush 45, 2) := by decide +kernel
theorem dX5_sum_19 : decode cX5_sum 19 = .ok (.if_icmp .ne 35, 3) := by decide +kernel
theorem dX5_sum_22 : decode cX5_sum 22 = .ok (.aload_n 0, 1) := by decide +kernel
theorem dX5_sum_23 : decode cX5_sum 23 = .ok (.dup, 1) := by decide +kernel
theorem dX5_sum_24 : decode cX5_sum 24 = .ok (.getfield 21, 3) := by decide +kernel
theorem dX5_sum_27 : decode cX5_sum 27 = .ok (.iconst 1, 1) := by decide +kernel
theorem dX5_sum_28 : decode cX5_sum 28 = .ok (.iadd, 1) := by decide +kernel
theorem dX5_sum_29 : decode cX5_sum 29 = .ok (.putfield 21, 3) := by decide +kernel
theorem dX5_sum_32 : decode cX5_sum 32 = .ok (.new 63, 3) := by decide +kernel
theorem dX5_sum_35 : decode cX5_sum 35 = .ok (.dup, 1) := by decide +kernel
theorem dX5_sum_36 : decode cX5_sum 36 = .ok (.iload_n 2, 1) := by decide +kernel
theorem dX5_sum_37 : decode cX5_sum 37 = .ok (.aload_n 1, 1) := by decide +kernel
theorem dX5_sum_38 : decode cX5_sum 38 = .ok (.aload_n 0, 1) := by decide +kernel
theorem dX5_sum_39 : decode cX5_sum 39 = .ok (.invokestatic 68, 3) := by decide +kernel
theorem dX5_sum_42 : decode cX5_sum 42 = .ok (.invokespecial 65, 3) := by decide +kernel
theorem dX5_sum_45 : decode cX5_sum 45 = .ok (.astore_n 1, 1) := by decide +kernel
theorem dX5_sum_46 : decode cX5_sum 46 = .ok (.aload_n 0, 1) := by decide +kernel
theorem dX5_sum_47 : decode cX5_sum 47 = .ok (.invokevirtual 38, 3) := by decide +kernel
theorem dX5_sum_50 : decode cX5_sum 50 = .ok (.istore_n 2, 1) := by decide +kernel
theorem dX5_sum_51 : decode cX5_sum 51 = .ok (.goto (-41), 3) := by decide +kernel
theorem dX5_sum_54 : decode cX5_sum 54 = .ok (.aload_n 1, 1) := by decide +kernel
theorem dX5_sum_55 : decode cX5_sum 55 = .ok (.areturn, 1) := by decide +kernel
abbrev MX5_sum : zT := (yX5_sum, cX5_sum, 3, (Option.some (Jvm.ClassFile.FieldType.object "LassoFinder$Expression")), [])
theorem plX5_sum : zplain MX5_sum 1 ∧ (zcodeW MX5_sum ∈ lw_all ∧ Cond.initialized MX5_sum.1.cls ∈ lw_all) := ⟨⟨by decide +kernel, by decide +kernel⟩, q1323, q109⟩
def RC_G_X5_expression (g : zG) (lv : Nat) (rc : Nat → List Int → zM → Option zO) : Prop :=
  (∀ {x0 : Int} {σ : zM} {out : zO}, rc 0 [x0] σ = some out → Cj g lv MX5_expression [zr x0] σ out) ∧
  (∀ {x0 : Int} {σ : zM} {out : zO}, rc 1 [x0] σ = some out → Cj g lv MX5_part [zr x0] σ out) ∧
  (∀ {x0 : Int} {σ : zM} {out : zO}, rc 2 [x0] σ = some out → Cj g lv MX5_product [zr x0] σ out) ∧
  (∀ {x0 : Int} {σ : zM} {out : zO}, rc 3 [x0] σ = some out → Cj g lv MX5_sum [zr x0] σ out) ∧ True
noncomputable def f_X5_expression_24 (rc : Nat → List Int → zM → Option zO) (x0 x1 x2 : Int) (σ : zM) : Option zO :=
  (zgf σ 502 x0).bind fun v1 =>
  (zpf σ 502 x0 (zadd v1 1)).bind fun σ2 =>
  (znO σ2 14 3).bind fun σ3 =>
  zlet ((↑(zN σ2) : Int)) fun y4 =>
  zcrT (rc 3 [x0] σ3) (fun n a σ6 => some (n + 1, zr a, σ6)) fun v5 σ6 =>
  zgd (decide (0 ≤ y4)) <|
  zcv (f_X14_init y4 x2 x1 v5 σ6) fun σ7 =>
  some (0, zr y4, σ7)
theorem w_X5_expression_24 {g : zG} {lv : Nat} {out : zO} (rc : Nat → List Int → zM → Option zO) (hrc : RC_G_X5_expression g (lv + 7) rc) (x0 x1 x2 : Int) (σ : zM) {r : zO} (h : f_X5_expression_24 rc x0 x1 x2 σ = some r) (hk : (fun o : zO => o = out) r) : Gj g MX5_expression (lv + 8) 24 [(0, zr x0), (1, zr x1), (2, zi x2)] [] σ out := by
  revert h
  unfold f_X5_expression_24
  refine zst_ (gj_aload_n 0 (pc := 24) dX5_expression_24 rfl) ?_
  refine zst_ (gj_dup (pc := 25) dX5_expression_25 rfl) ?_
  refine gb_get (pc := 26) fl502 dX5_expression_26 q699 (Or.inl rfl) (fun v1 => ?_)
  refine zst_ (gj_iconst (pc := 29) dX5_expression_29 (by decide)) ?_
  refine zst_ (gj_iadd (pc := 30) dX5_expression_30) ?_
  refine gb_put (pc := 31) fl502 fr502 dX5_expression_31 q699 (Or.inl rfl) (fun σ2 => ?_)
  refine gb_new (pc := 34) (ci := 14) (c := (RX14, TX14, 3)) rfl (by decide) dX5_expression_34 q1355 q1356 q138 (fun σ3 => ?_)
  refine gb_let (fun y4 => ?_)
  refine zst_ (gj_dup (pc := 37) dX5_expression_37 rfl) ?_
  refine zst_ (gj_iload_n 2 (pc := 38) dX5_expression_38 rfl) ?_
  refine zst_ (gj_aload_n 1 (pc := 39) dX5_expression_39 rfl) ?_
  refine zst_ (gj_aload_n 0 (pc := 40) dX5_expression_40 rfl) ?_
  refine gb_callAT (pc := 41) (as := [zr x0]) (rest := [zr x1, zi x2, zr y4, zr y4]) (zCl.of (zLk_S (M := MX5_expression) plX5_sum.1 rfl dX5_expression_41 q1321 q1322 q109 q1323) plX5_sum (Nat.le_of_ble_eq_true rfl) (fun h => hrc.2.2.2.1 h)) (fun n a s0 h => by cases h; exact Or.inl ⟨rfl, hk⟩) (fun v5 σ6 => ?_)
  refine gb_gd (fun hb => ?_)
  refine gb_callV (pc := 44) (as := [zr y4, zi x2, zr x1, zr v5]) (rest := [zr y4]) (zCl.of (zLk_IN (M := MX5_expression) plX14_init.1 rfl (of_decide_eq_true hb) rfl rfl dX5_expression_44 q1357 q1358 q1359) plX14_init (Nat.le_of_ble_eq_true rfl) (fun h => c_X14_init h)) (fun σ7 => ?_)
  intro h
  cases h
  have hk : (0, zr y4, σ7) = out := hk
  subst hk
  exact gj_aret (pc := 47) dX5_expression_47 rfl (Or.inl ⟨_, rfl⟩)
noncomputable def f_X5_expression (rc : Nat → List Int → zM → Option zO) (x0 : Int) (σ : zM) : Option zO :=
  zcrT (rc 3 [x0] σ) (fun n a σ2 => some (n + 1, zr a, σ2)) fun v1 σ2 =>
  zgd (zis σ2 7 x0 || zis σ2 8 x0) <|
  zci (f_X5_now x0 σ2) fun v3 σ4 =>
  if v3 = 61 then
    f_X5_expression_24 rc x0 v1 v3 σ4
  else
    if v3 = 60 then
      f_X5_expression_24 rc x0 v1 v3 σ4
    else
      some (0, zr v1, σ4)
theorem c_X5_expression {g : zG} {lv : Nat} {rc : Nat → List Int → zM → Option zO} (hrc : RC_G_X5_expression g (lv + 7) rc) {x0 : Int} {σ : zM} {out : zO} (h : f_X5_expression rc x0 σ = some out) : Cj g (lv + 8) MX5_expression [zr x0] σ out := by
  refine cj_go (ls := [(0, zr x0)]) (by decide) (Nat.le_of_ble_eq_true rfl) rfl (zgen h (fun r hk => ?_))
  unfold f_X5_expression
  refine zst_ (gj_aload_n 0 (pc := 0) dX5_expression_0 rfl) ?_
  refine gb_callAT (pc := 1) (as := [zr x0]) (rest := []) (zCl.of (zLk_S (M := MX5_expression) plX5_sum.1 rfl dX5_expression_1 q1321 q1322 q109 q1323) plX5_sum (Nat.le_of_ble_eq_true rfl) (fun h => hrc.2.2.2.1 h)) (fun n a s0 h => by cases h; exact Or.inl ⟨rfl, hk⟩) (fun v1 σ2 => ?_)
  refine zst_ (gj_astore_n (pc := 4) (ls' := [(1, zr v1), (0, zr x0)]) dX5_expression_4 (by decide) rfl) ?_
  refine zst_ (gj_aload_n 1 (pc := 5) dX5_expression_5 rfl) ?_
  refine gb_gd (fun hb => ?_)
  refine gb_callI (pc := 6) (as := [zr x0]) (rest := []) (((Bool.or_eq_true _ _).mp hb).elim (fun hb => (zCl.of (zLk_V (M := MX5_expression) (ci := 6) (r := (RX6, TX6, 8)) plX5_now.1 rfl rfl (zisE hb).1 (zisE hb).2 dX5_expression_6 q1082 q1054 q2460 q1055) plX5_now (Nat.le_of_ble_eq_true rfl) (fun h => c_X5_now h))) (fun hb => (zCl.of (zLk_V (M := MX5_expression) (ci := 7) (r := (RX7, TX7, 10)) plX5_now.1 rfl rfl (zisE hb).1 (zisE hb).2 dX5_expression_6 q1082 q1054 q2459 q1055) plX5_now (Nat.le_of_ble_eq_true rfl) (fun h => c_X5_now h)))) (fun v3 σ4 => ?_)
  refine zst_ (gj_istore_n (pc := 9) (ls' := [(2, zi v3), (1, zr v1), (0, zr x0)]) dX5_expression_9 (by decide) rfl) ?_
  refine zst_ (gj_iload_n 0 (pc := 10) dX5_expression_10 rfl) ?_
  refine zst_ (gj_bipush (pc := 11) dX5_expression_11 ⟨rfl, by decide⟩) ?_
  refine gb_if (gj_icmp_eq 24 (pc := 13) dX5_expression_13 (by decide)) ?_ ?_
  · refine zst_ (gj_sub [2, 1, 0] rfl) ?_
    exact fun h => w_X5_expression_24 rc hrc x0 v1 v3 σ4 h hk
  · refine zst_ (gj_iload_n 0 (pc := 16) dX5_expression_16 rfl) ?_
    refine zst_ (gj_bipush (pc := 17) dX5_expression_17 ⟨rfl, by decide⟩) ?_
    refine gb_if (gj_icmp_eq 24 (pc := 19) dX5_expression_19 (by decide)) ?_ ?_
    · refine zst_ (gj_sub [2, 1, 0] rfl) ?_
      exact fun h => w_X5_expression_24 rc hrc x0 v1 v3 σ4 h hk
    · refine zst_ (gj_aload_n 1 (pc := 22) dX5_expression_22 rfl) ?_
      intro h
      cases h
      have hk : (0, zr v1, σ4) = out := hk
      subst hk
      exact gj_aret (pc := 23) dX5_expression_23 rfl (Or.inl ⟨_, rfl⟩)
noncomputable def f_X5_part_157 (rc : Nat → List Int → zM → Option zO) (x0 t0 : Int) (σ : zM) : Option zO :=
  zcvT (f_X5_need t0 σ) (fun n a σ1 => some (n + 1, zr a, σ1)) fun σ1 =>
  (znO σ1 13 1).bind fun σ2 =>
  zlet ((↑(zN σ1) : Int)) fun y3 =>
  zgd (zis σ2 7 x0 || zis σ2 8 x0) <|
  zciT (f_X5_letter x0 97 8 σ2) (fun n a σ5 => some (n + 1, zr a, σ5)) fun v4 σ5 =>
  zgd (decide (0 ≤ y3)) <|
  zcv (f_X13_init y3 v4 σ5) fun σ6 =>
  some (0, zr y3, σ6)
theorem w_X5_part_157 {g : zG} {lv : Nat} {out : zO} (rc : Nat → List Int → zM → Option zO) (hrc : RC_G_X5_expression g (lv + 7) rc) (x0 t0 : Int) (σ : zM) {r : zO} (h : f_X5_part_157 rc x0 t0 σ = some r) (hk : (fun o : zO => o = out) r) : Gj g MX5_part (lv + 8) 157 [(0, zr x0)] [zi t0] σ out := by
  revert h
  unfold f_X5_part_157
  refine gb_callVT (pc := 157) (as := [zi t0]) (rest := []) (zCl.of (zLk_S (M := MX5_part) plX5_need.1 rfl dX5_part_157 q1104 q1085 q109 q1086) plX5_need (Nat.le_of_ble_eq_true rfl) (fun h => c_X5_need h)) (fun n a s0 h => by cases h; exact Or.inl ⟨rfl, hk⟩) (fun σ1 => ?_)
  refine gb_new (pc := 160) (ci := 13) (c := (RX13, TX13, 1)) rfl (by decide) dX5_part_160 q1345 q1346 q137 (fun σ2 => ?_)
  refine gb_let (fun y3 => ?_)
  refine zst_ (gj_dup (pc := 163) dX5_part_163 rfl) ?_
  refine zst_ (gj_aload_n 0 (pc := 164) dX5_part_164 rfl) ?_
  refine zst_ (gj_bipush (pc := 165) dX5_part_165 ⟨rfl, by decide⟩) ?_
  refine zst_ (gj_bipush (pc := 167) dX5_part_167 ⟨rfl, by decide⟩) ?_
  refine gb_gd (fun hb => ?_)
  refine gb_callIT (pc := 169) (as := [zr x0, zi 97, zi 8]) (rest := [zr y3, zr y3]) (((Bool.or_eq_true _ _).mp hb).elim (fun hb => (zCl.of (zLk_V (M := MX5_part) (ci := 6) (r := (RX6, TX6, 8)) plX5_letter.1 rfl rfl (zisE hb).1 (zisE hb).2 dX5_part_169 q1333 q1102 q2469 q1103) plX5_letter (Nat.le_of_ble_eq_true rfl) (fun h => c_X5_letter h))) (fun hb => (zCl.of (zLk_V (M := MX5_part) (ci := 7) (r := (RX7, TX7, 10)) plX5_letter.1 rfl rfl (zisE hb).1 (zisE hb).2 dX5_part_169 q1333 q1102 q2468 q1103) plX5_letter (Nat.le_of_ble_eq_true rfl) (fun h => c_X5_letter h)))) (fun n a s0 h => by cases h; exact Or.inl ⟨rfl, hk⟩) (fun v4 σ5 => ?_)
  refine gb_gd (fun hb => ?_)
  refine gb_callV (pc := 172) (as := [zr y3, zi v4]) (rest := [zr y3]) (zCl.of (zLk_IN (M := MX5_part) plX13_init.1 rfl (of_decide_eq_true hb) rfl rfl dX5_part_172 q1347 q1348 q1349) plX13_init (Nat.le_of_ble_eq_true rfl) (fun h => c_X13_init h)) (fun σ6 => ?_)
  intro h
  cases h
  have hk : (0, zr y3, σ6) = out := hk
  subst hk
  exact gj_aret (pc := 175) dX5_part_175 rfl (Or.inl ⟨_, rfl⟩)
noncomputable def f_X5_part_156 (rc : Nat → List Int → zM → Option zO) (x0 : Int) (σ : zM) : Option zO :=
  f_X5_part_157 rc x0 0 σ
theorem w_X5_part_156 {g : zG} {lv : Nat} {out : zO} (rc : Nat → List Int → zM → Option zO) (hrc : RC_G_X5_expression g (lv + 7) rc) (x0 : Int) (σ : zM) {r : zO} (h : f_X5_part_156 rc x0 σ = some r) (hk : (fun o : zO => o = out) r) : Gj g MX5_part (lv + 8) 156 [(0, zr x0)] [] σ out := by
  revert h
  unfold f_X5_part_156
  refine zst_ (gj_iconst (pc := 156) dX5_part_156 (by decide)) ?_
  exact fun h => w_X5_part_157 rc hrc x0 0 σ h hk
noncomputable def f_X5_part_125 (rc : Nat → List Int → zM → Option zO) (x0 x1 : Int) (σ : zM) : Option zO :=
  if x1 < 97 then
    f_X5_part_156 rc x0 σ
  else
    if 104 < x1 then
      f_X5_part_156 rc x0 σ
    else
      (zgf σ 500 x0).bind fun v1 =>
      (zgf σ 200 v1).bind fun v2 =>
      (zga σ 101 v2 (zsub x1 97)).bind fun v3 =>
      if v3 = 0 then
        f_X5_part_156 rc x0 σ
      else
        f_X5_part_157 rc x0 1 σ
theorem w_X5_part_125 {g : zG} {lv : Nat} {out : zO} (rc : Nat → List Int → zM → Option zO) (hrc : RC_G_X5_expression g (lv + 7) rc) (x0 x1 : Int) (σ : zM) {r : zO} (h : f_X5_part_125 rc x0 x1 σ = some r) (hk : (fun o : zO => o = out) r) : Gj g MX5_part (lv + 8) 125 [(0, zr x0), (1, zi x1)] [] σ out := by
  revert h
  unfold f_X5_part_125
  refine zst_ (gj_iload_n 1 (pc := 125) dX5_part_125 rfl) ?_
  refine zst_ (gj_bipush (pc := 126) dX5_part_126 ⟨rfl, by decide⟩) ?_
  refine gb_if (gj_icmp_lt 156 (pc := 128) dX5_part_128 (by decide)) ?_ ?_
  · refine zst_ (gj_sub [0] rfl) ?_
    exact fun h => w_X5_part_156 rc hrc x0 σ h hk
  · refine zst_ (gj_iload_n 1 (pc := 131) dX5_part_131 rfl) ?_
    refine zst_ (gj_bipush (pc := 132) dX5_part_132 ⟨rfl, by decide⟩) ?_
    refine gb_if (gj_icmp_gt 156 (pc := 134) dX5_part_134 (by decide)) ?_ ?_
    · refine zst_ (gj_sub [0] rfl) ?_
      exact fun h => w_X5_part_156 rc hrc x0 σ h hk
    · refine zst_ (gj_aload_n 0 (pc := 137) dX5_part_137 rfl) ?_
      refine gb_get (pc := 138) fl500 dX5_part_138 q689 (Or.inl rfl) (fun v1 => ?_)
      refine gb_getNe (pc := 141) fl200 dX5_part_141 q270 (Or.inl rfl) (fun v2 => ?_)
      refine zst_ (gj_iload_n 1 (pc := 144) dX5_part_144 rfl) ?_
      refine zst_ (gj_bipush (pc := 145) dX5_part_145 ⟨rfl, by decide⟩) ?_
      refine zst_ (gj_isub (pc := 147) dX5_part_147) ?_
      refine gb_iald (pc := 148) dX5_part_148 (fun v3 => ?_)
      refine gb_if (gj_if_eq 156 (pc := 149) dX5_part_149 (by decide)) ?_ ?_
      · refine zst_ (gj_sub [0] rfl) ?_
        exact fun h => w_X5_part_156 rc hrc x0 σ h hk
      · refine zst_ (gj_iconst (pc := 152) dX5_part_152 (by decide)) ?_
        refine zst_ (gj_goto 157 (pc := 153) dX5_part_153 (by decide)) ?_
        refine zst_ (gj_sub [0] rfl) ?_
        exact fun h => w_X5_part_157 rc hrc x0 1 σ h hk
noncomputable def f_X5_part_84 (rc : Nat → List Int → zM → Option zO) (x0 x1 t0 : Int) (σ : zM) : Option zO :=
  zcvT (f_X5_need t0 σ) (fun n a σ1 => some (n + 1, zr a, σ1)) fun σ1 =>
  (zgf σ1 504 x0).bind fun v2 =>
  (zpf σ1 504 x0 (zadd v2 1)).bind fun σ3 =>
  if x1 < 48 then
    f_X5_part_125 rc x0 x1 σ3
  else
    if 55 < x1 then
      f_X5_part_125 rc x0 x1 σ3
    else
      (znO σ3 12 1).bind fun σ4 =>
      zlet ((↑(zN σ3) : Int)) fun y5 =>
      zgd (zis σ4 7 x0 || zis σ4 8 x0) <|
      zciT (f_X5_letter x0 48 8 σ4) (fun n a σ7 => some (n + 1, zr a, σ7)) fun v6 σ7 =>
      zgd (decide (0 ≤ y5)) <|
      zcv (f_X12_init y5 v6 σ7) fun σ8 =>
      some (0, zr y5, σ8)
theorem w_X5_part_84 {g : zG} {lv : Nat} {out : zO} (rc : Nat → List Int → zM → Option zO) (hrc : RC_G_X5_expression g (lv + 7) rc) (x0 x1 t0 : Int) (σ : zM) {r : zO} (h : f_X5_part_84 rc x0 x1 t0 σ = some r) (hk : (fun o : zO => o = out) r) : Gj g MX5_part (lv + 8) 84 [(0, zr x0), (1, zi x1)] [zi t0] σ out := by
  revert h
  unfold f_X5_part_84
  refine gb_callVT (pc := 84) (as := [zi t0]) (rest := []) (zCl.of (zLk_S (M := MX5_part) plX5_need.1 rfl dX5_part_84 q1104 q1085 q109 q1086) plX5_need (Nat.le_of_ble_eq_true rfl) (fun h => c_X5_need h)) (fun n a s0 h => by cases h; exact Or.inl ⟨rfl, hk⟩) (fun σ1 => ?_)
  refine zst_ (gj_aload_n 0 (pc := 87) dX5_part_87 rfl) ?_
  refine zst_ (gj_dup (pc := 88) dX5_part_88 rfl) ?_
  refine gb_get (pc := 89) fl504 dX5_part_89 q707 (Or.inl rfl) (fun v2 => ?_)
  refine zst_ (gj_iconst (pc := 92) dX5_part_92 (by decide)) ?_
  refine zst_ (gj_iadd (pc := 93) dX5_part_93) ?_
  refine gb_put (pc := 94) fl504 fr504 dX5_part_94 q707 (Or.inl rfl) (fun σ3 => ?_)
  refine zst_ (gj_iload_n 1 (pc := 97) dX5_part_97 rfl) ?_
  refine zst_ (gj_bipush (pc := 98) dX5_part_98 ⟨rfl, by decide⟩) ?_
  refine gb_if (gj_icmp_lt 125 (pc := 100) dX5_part_100 (by decide)) ?_ ?_
  · exact fun h => w_X5_part_125 rc hrc x0 x1 σ3 h hk
  · refine zst_ (gj_iload_n 1 (pc := 103) dX5_part_103 rfl) ?_
    refine zst_ (gj_bipush (pc := 104) dX5_part_104 ⟨rfl, by decide⟩) ?_
    refine gb_if (gj_icmp_gt 125 (pc := 106) dX5_part_106 (by decide)) ?_ ?_
    · exact fun h => w_X5_part_125 rc hrc x0 x1 σ3 h hk
    · refine gb_new (pc := 109) (ci := 12) (c := (RX12, TX12, 1)) rfl (by decide) dX5_part_109 q1331 q1332 q136 (fun σ4 => ?_)
      refine gb_let (fun y5 => ?_)
      refine zst_ (gj_dup (pc := 112) dX5_part_112 rfl) ?_
      refine zst_ (gj_aload_n 0 (pc := 113) dX5_part_113 rfl) ?_
      refine zst_ (gj_bipush (pc := 114) dX5_part_114 ⟨rfl, by decide⟩) ?_
      refine zst_ (gj_bipush (pc := 116) dX5_part_116 ⟨rfl, by decide⟩) ?_
      refine gb_gd (fun hb => ?_)
      refine gb_callIT (pc := 118) (as := [zr x0, zi 48, zi 8]) (rest := [zr y5, zr y5]) (((Bool.or_eq_true _ _).mp hb).elim (fun hb => (zCl.of (zLk_V (M := MX5_part) (ci := 6) (r := (RX6, TX6, 8)) plX5_letter.1 rfl rfl (zisE hb).1 (zisE hb).2 dX5_part_118 q1333 q1102 q2469 q1103) plX5_letter (Nat.le_of_ble_eq_true rfl) (fun h => c_X5_letter h))) (fun hb => (zCl.of (zLk_V (M := MX5_part) (ci := 7) (r := (RX7, TX7, 10)) plX5_letter.1 rfl rfl (zisE hb).1 (zisE hb).2 dX5_part_118 q1333 q1102 q2468 q1103) plX5_letter (Nat.le_of_ble_eq_true rfl) (fun h => c_X5_letter h)))) (fun n a s0 h => by cases h; exact Or.inl ⟨rfl, hk⟩) (fun v6 σ7 => ?_)
      refine gb_gd (fun hb => ?_)
      refine gb_callV (pc := 121) (as := [zr y5, zi v6]) (rest := [zr y5]) (zCl.of (zLk_IN (M := MX5_part) plX12_init.1 rfl (of_decide_eq_true hb) rfl rfl dX5_part_121 q1334 q1335 q1336) plX12_init (Nat.le_of_ble_eq_true rfl) (fun h => c_X12_init h)) (fun σ8 => ?_)
      intro h
      cases h
      have hk : (0, zr y5, σ8) = out := hk
      subst hk
      exact gj_aret (pc := 124) dX5_part_124 rfl (Or.inl ⟨_, rfl⟩)
noncomputable def f_X5_part_24 (rc : Nat → List Int → zM → Option zO) (x0 t0 : Int) (σ : zM) : Option zO :=
  zcvT (f_X5_need t0 σ) (fun n a σ1 => some (n + 1, zr a, σ1)) fun σ1 =>
  (zgf σ1 503 x0).bind fun v2 =>
  (zpf σ1 503 x0 (zadd v2 1)).bind fun σ3 =>
  (zgf σ3 502 x0).bind fun v4 =>
  (zpf σ3 502 x0 (zadd v4 1)).bind fun σ5 =>
  zcrT (rc 0 [x0] σ5) (fun n a σ7 => some (n + 1, zr a, σ7)) fun v6 σ7 =>
  zgd (zis σ7 7 x0 || zis σ7 8 x0) <|
  zcvT (f_X5_sign x0 41 σ7) (fun n a σ8 => some (n + 1, zr a, σ8)) fun σ8 =>
  (zgf σ8 503 x0).bind fun v9 =>
  (zpf σ8 503 x0 (zsub v9 1)).bind fun σ10 =>
  some (0, zr v6, σ10)
theorem w_X5_part_24 {g : zG} {lv : Nat} {out : zO} (rc : Nat → List Int → zM → Option zO) (hrc : RC_G_X5_expression g (lv + 7) rc) (x0 t0 : Int) (σ : zM) {r : zO} (h : f_X5_part_24 rc x0 t0 σ = some r) (hk : (fun o : zO => o = out) r) : Gj g MX5_part (lv + 8) 24 [(0, zr x0)] [zi t0] σ out := by
  revert h
  unfold f_X5_part_24
  refine gb_callVT (pc := 24) (as := [zi t0]) (rest := []) (zCl.of (zLk_S (M := MX5_part) plX5_need.1 rfl dX5_part_24 q1104 q1085 q109 q1086) plX5_need (Nat.le_of_ble_eq_true rfl) (fun h => c_X5_need h)) (fun n a s0 h => by cases h; exact Or.inl ⟨rfl, hk⟩) (fun σ1 => ?_)
  refine zst_ (gj_aload_n 0 (pc := 27) dX5_part_27 rfl) ?_
  refine zst_ (gj_dup (pc := 28) dX5_part_28 rfl) ?_
  refine gb_get (pc := 29) fl503 dX5_part_29 q706 (Or.inl rfl) (fun v2 => ?_)
  refine zst_ (gj_iconst (pc := 32) dX5_part_32 (by decide)) ?_
  refine zst_ (gj_iadd (pc := 33) dX5_part_33) ?_
  refine gb_put (pc := 34) fl503 fr503 dX5_part_34 q706 (Or.inl rfl) (fun σ3 => ?_)
  refine zst_ (gj_aload_n 0 (pc := 37) dX5_part_37 rfl) ?_
  refine zst_ (gj_dup (pc := 38) dX5_part_38 rfl) ?_
  refine gb_get (pc := 39) fl502 dX5_part_39 q699 (Or.inl rfl) (fun v4 => ?_)
  refine zst_ (gj_iconst (pc := 42) dX5_part_42 (by decide)) ?_
  refine zst_ (gj_iadd (pc := 43) dX5_part_43) ?_
  refine gb_put (pc := 44) fl502 fr502 dX5_part_44 q699 (Or.inl rfl) (fun σ5 => ?_)
  refine zst_ (gj_aload_n 0 (pc := 47) dX5_part_47 rfl) ?_
  refine gb_callAT (pc := 48) (as := [zr x0]) (rest := []) (zCl.of (zLk_S (M := MX5_part) plX5_expression.1 rfl dX5_part_48 q1318 q1319 q109 q1320) plX5_expression (Nat.le_of_ble_eq_true rfl) (fun h => hrc.1 h)) (fun n a s0 h => by cases h; exact Or.inl ⟨rfl, hk⟩) (fun v6 σ7 => ?_)
  refine zst_ (gj_astore_n (pc := 51) (ls' := [(2, zr v6), (0, zr x0)]) dX5_part_51 (by decide) rfl) ?_
  refine zst_ (gj_aload_n 1 (pc := 52) dX5_part_52 rfl) ?_
  refine zst_ (gj_bipush (pc := 53) dX5_part_53 ⟨rfl, by decide⟩) ?_
  refine gb_gd (fun hb => ?_)
  refine gb_callVT (pc := 55) (as := [zr x0, zi 41]) (rest := []) (((Bool.or_eq_true _ _).mp hb).elim (fun hb => (zCl.of (zLk_V (M := MX5_part) (ci := 6) (r := (RX6, TX6, 8)) plX5_sign.1 rfl rfl (zisE hb).1 (zisE hb).2 dX5_part_55 q1330 q1113 q2466 q1114) plX5_sign (Nat.le_of_ble_eq_true rfl) (fun h => c_X5_sign h))) (fun hb => (zCl.of (zLk_V (M := MX5_part) (ci := 7) (r := (RX7, TX7, 10)) plX5_sign.1 rfl rfl (zisE hb).1 (zisE hb).2 dX5_part_55 q1330 q1113 q2465 q1114) plX5_sign (Nat.le_of_ble_eq_true rfl) (fun h => c_X5_sign h)))) (fun n a s0 h => by cases h; exact Or.inl ⟨rfl, hk⟩) (fun σ8 => ?_)
  refine zst_ (gj_aload_n 1 (pc := 58) dX5_part_58 rfl) ?_
  refine zst_ (gj_dup (pc := 59) dX5_part_59 rfl) ?_
  refine gb_get (pc := 60) fl503 dX5_part_60 q706 (Or.inl rfl) (fun v9 => ?_)
  refine zst_ (gj_iconst (pc := 63) dX5_part_63 (by decide)) ?_
  refine zst_ (gj_isub (pc := 64) dX5_part_64) ?_
  refine gb_put (pc := 65) fl503 fr503 dX5_part_65 q706 (Or.inl rfl) (fun σ10 => ?_)
  refine zst_ (gj_aload_n 0 (pc := 68) dX5_part_68 rfl) ?_
  intro h
  cases h
  have hk : (0, zr v6, σ10) = out := hk
  subst hk
  exact gj_aret (pc := 69) dX5_part_69 rfl (Or.inl ⟨_, rfl⟩)
noncomputable def f_X5_part (rc : Nat → List Int → zM → Option zO) (x0 : Int) (σ : zM) : Option zO :=
  zgd (zis σ 7 x0 || zis σ 8 x0) <|
  zci (f_X5_now x0 σ) fun v1 σ2 =>
  if v1 ≠ 40 then
    (zgf σ2 504 x0).bind fun v3 =>
    if 12 ≤ v3 then
      f_X5_part_84 rc x0 v1 0 σ2
    else
      f_X5_part_84 rc x0 v1 1 σ2
  else
    (zgf σ2 503 x0).bind fun v4 =>
    if 4 ≤ v4 then
      f_X5_part_24 rc x0 0 σ2
    else
      f_X5_part_24 rc x0 1 σ2
theorem c_X5_part {g : zG} {lv : Nat} {rc : Nat → List Int → zM → Option zO} (hrc : RC_G_X5_expression g (lv + 7) rc) {x0 : Int} {σ : zM} {out : zO} (h : f_X5_part rc x0 σ = some out) : Cj g (lv + 8) MX5_part [zr x0] σ out := by
  refine cj_go (ls := [(0, zr x0)]) (by decide) (Nat.le_of_ble_eq_true rfl) rfl (zgen h (fun r hk => ?_))
  unfold f_X5_part
  refine zst_ (gj_aload_n 0 (pc := 0) dX5_part_0 rfl) ?_
  refine gb_gd (fun hb => ?_)
  refine gb_callI (pc := 1) (as := [zr x0]) (rest := []) (((Bool.or_eq_true _ _).mp hb).elim (fun hb => (zCl.of (zLk_V (M := MX5_part) (ci := 6) (r := (RX6, TX6, 8)) plX5_now.1 rfl rfl (zisE hb).1 (zisE hb).2 dX5_part_1 q1082 q1054 q2460 q1055) plX5_now (Nat.le_of_ble_eq_true rfl) (fun h => c_X5_now h))) (fun hb => (zCl.of (zLk_V (M := MX5_part) (ci := 7) (r := (RX7, TX7, 10)) plX5_now.1 rfl rfl (zisE hb).1 (zisE hb).2 dX5_part_1 q1082 q1054 q2459 q1055) plX5_now (Nat.le_of_ble_eq_true rfl) (fun h => c_X5_now h)))) (fun v1 σ2 => ?_)
  refine zst_ (gj_istore_n (pc := 4) (ls' := [(1, zi v1), (0, zr x0)]) dX5_part_4 (by decide) rfl) ?_
  refine zst_ (gj_iload_n 0 (pc := 5) dX5_part_5 rfl) ?_
  refine zst_ (gj_bipush (pc := 6) dX5_part_6 ⟨rfl, by decide⟩) ?_
  refine gb_if (gj_icmp_ne 70 (pc := 8) dX5_part_8 (by decide)) ?_ ?_
  · refine zst_ (gj_aload_n 1 (pc := 70) dX5_part_70 rfl) ?_
    refine gb_get (pc := 71) fl504 dX5_part_71 q707 (Or.inl rfl) (fun v3 => ?_)
    refine zst_ (gj_bipush (pc := 74) dX5_part_74 ⟨rfl, by decide⟩) ?_
    refine gb_if (gj_icmp_ge 83 (pc := 76) dX5_part_76 (by decide)) ?_ ?_
    · refine zst_ (gj_iconst (pc := 83) dX5_part_83 (by decide)) ?_
      refine zst_ (gj_sub [1, 0] rfl) ?_
      exact fun h => w_X5_part_84 rc hrc x0 v1 0 σ2 h hk
    · refine zst_ (gj_iconst (pc := 79) dX5_part_79 (by decide)) ?_
      refine zst_ (gj_goto 84 (pc := 80) dX5_part_80 (by decide)) ?_
      refine zst_ (gj_sub [1, 0] rfl) ?_
      exact fun h => w_X5_part_84 rc hrc x0 v1 1 σ2 h hk
  · refine zst_ (gj_aload_n 1 (pc := 11) dX5_part_11 rfl) ?_
    refine gb_get (pc := 12) fl503 dX5_part_12 q706 (Or.inl rfl) (fun v4 => ?_)
    refine zst_ (gj_iconst (pc := 15) dX5_part_15 (by decide)) ?_
    refine gb_if (gj_icmp_ge 23 (pc := 16) dX5_part_16 (by decide)) ?_ ?_
    · refine zst_ (gj_iconst (pc := 23) dX5_part_23 (by decide)) ?_
      refine zst_ (gj_sub [1] rfl) ?_
      exact fun h => w_X5_part_24 rc hrc x0 0 σ2 h hk
    · refine zst_ (gj_iconst (pc := 19) dX5_part_19 (by decide)) ?_
      refine zst_ (gj_goto 24 (pc := 20) dX5_part_20 (by decide)) ?_
      refine zst_ (gj_sub [1] rfl) ?_
      exact fun h => w_X5_part_24 rc hrc x0 1 σ2 h hk
noncomputable def f_X5_product_32 (rc : Nat → List Int → zM → Option zO) (x1 : Int) (σ : zM) : Option zO :=
  some (0, zr x1, σ)
theorem w_X5_product_32 {g : zG} {lv : Nat} {out : zO} (rc : Nat → List Int → zM → Option zO) (hrc : RC_G_X5_expression g (lv + 7) rc) (x1 : Int) (σ : zM) {r : zO} (h : f_X5_product_32 rc x1 σ = some r) (hk : (fun o : zO => o = out) r) : Gj g MX5_product (lv + 8) 32 [(1, zr x1)] [] σ out := by
  revert h
  unfold f_X5_product_32
  refine zst_ (gj_aload_n 0 (pc := 32) dX5_product_32 rfl) ?_
  intro h
  cases h
  have hk : (0, zr x1, σ) = out := hk
  subst hk
  exact gj_aret (pc := 33) dX5_product_33 rfl (Or.inl ⟨_, rfl⟩)
noncomputable def f_X5_product_5_b (rc : Nat → List Int → zM → Option zO) (x0 x1 : Int) (σ : zM) : Option ((Int × zM) ⊕ zO) :=
  zgd (zis σ 7 x0 || zis σ 8 x0) <|
  zci (f_X5_take x0 42 σ) fun v1 σ2 =>
  if v1 = 0 then
    (f_X5_product_32 rc x1 σ2).map (fun r => (.inr r))
  else
    (znO σ2 14 3).bind fun σ3 =>
    zlet ((↑(zN σ2) : Int)) fun y4 =>
    zcrT (rc 1 [x0] σ3) (fun n a σ6 => some (.inr (n + 1, zr a, σ6))) fun v5 σ6 =>
    zgd (decide (0 ≤ y4)) <|
    zcv (f_X14_init y4 42 x1 v5 σ6) fun σ7 =>
    some (.inl (y4, σ7))
noncomputable def f_X5_product_5 (rc : Nat → List Int → zM → Option zO) (x0 x1 : Int) (σ : zM) : Option zO :=
  zloop (fun s : Int × zM => f_X5_product_5_b rc x0 s.1 s.2) (x1, σ)
theorem w_X5_product_5_b {g : zG} {lv : Nat} {out : zO} (rc : Nat → List Int → zM → Option zO) (hrc : RC_G_X5_expression g (lv + 7) rc) (x0 x1 : Int) (σ : zM) {r : ((Int × zM) ⊕ zO)} (h : f_X5_product_5_b rc x0 x1 σ = some r) (hk : (zKL (fun s : Int × zM => Gj g MX5_product (lv + 8) 5 [(0, zr x0), (1, zr s.1)] [] s.2 out) (fun o : zO => o = out)) r) : Gj g MX5_product (lv + 8) 5 [(0, zr x0), (1, zr x1)] [] σ out := by
  revert h
  unfold f_X5_product_5_b
  refine zst_ (gj_aload_n 0 (pc := 5) dX5_product_5 rfl) ?_
  refine zst_ (gj_bipush (pc := 6) dX5_product_6 ⟨rfl, by decide⟩) ?_
  refine gb_gd (fun hb => ?_)
  refine gb_callI (pc := 8) (as := [zr x0, zi 42]) (rest := []) (((Bool.or_eq_true _ _).mp hb).elim (fun hb => (zCl.of (zLk_V (M := MX5_product) (ci := 6) (r := (RX6, TX6, 8)) plX5_take.1 rfl rfl (zisE hb).1 (zisE hb).2 dX5_product_8 q1115 q1080 q2463 q1081) plX5_take (Nat.le_of_ble_eq_true rfl) (fun h => c_X5_take h))) (fun hb => (zCl.of (zLk_V (M := MX5_product) (ci := 7) (r := (RX7, TX7, 10)) plX5_take.1 rfl rfl (zisE hb).1 (zisE hb).2 dX5_product_8 q1115 q1080 q2462 q1081) plX5_take (Nat.le_of_ble_eq_true rfl) (fun h => c_X5_take h)))) (fun v1 σ2 => ?_)
  refine gb_if (gj_if_eq 32 (pc := 11) dX5_product_11 (by decide)) ?_ ?_
  · refine zst_ (gj_sub [1] rfl) ?_
    intro h
    obtain ⟨r0, h0, rfl⟩ := zmE h
    exact w_X5_product_32 rc hrc x1 σ2 h0 hk
  · refine gb_new (pc := 14) (ci := 14) (c := (RX14, TX14, 3)) rfl (by decide) dX5_product_14 q1355 q1356 q138 (fun σ3 => ?_)
    refine gb_let (fun y4 => ?_)
    refine zst_ (gj_dup (pc := 17) dX5_product_17 rfl) ?_
    refine zst_ (gj_bipush (pc := 18) dX5_product_18 ⟨rfl, by decide⟩) ?_
    refine zst_ (gj_aload_n 1 (pc := 20) dX5_product_20 rfl) ?_
    refine zst_ (gj_aload_n 0 (pc := 21) dX5_product_21 rfl) ?_
    refine gb_callAT (pc := 22) (as := [zr x0]) (rest := [zr x1, zi 42, zr y4, zr y4]) (zCl.of (zLk_S (M := MX5_product) plX5_part.1 rfl dX5_product_22 q1327 q1328 q109 q1329) plX5_part (Nat.le_of_ble_eq_true rfl) (fun h => hrc.2.1 h)) (fun n a s0 h => by cases h; exact Or.inl ⟨rfl, hk⟩) (fun v5 σ6 => ?_)
    refine gb_gd (fun hb => ?_)
    refine gb_callV (pc := 25) (as := [zr y4, zi 42, zr x1, zr v5]) (rest := [zr y4]) (zCl.of (zLk_IN (M := MX5_product) plX14_init.1 rfl (of_decide_eq_true hb) rfl rfl dX5_product_25 q1357 q1358 q1359) plX14_init (Nat.le_of_ble_eq_true rfl) (fun h => c_X14_init h)) (fun σ7 => ?_)
    refine zst_ (gj_astore_n (pc := 28) (ls' := [(1, zr y4), (0, zr x0)]) dX5_product_28 (by decide) rfl) ?_
    refine zst_ (gj_goto 5 (pc := 29) dX5_product_29 (by decide)) ?_
    refine zst_ (gj_sub [1, 0] rfl) ?_
    intro h
    cases h
    exact hk
theorem w_X5_product_5 {g : zG} {lv : Nat} {out : zO} (rc : Nat → List Int → zM → Option zO) (hrc : RC_G_X5_expression g (lv + 7) rc) (x0 x1 : Int) (σ : zM) {r : zO} (h : f_X5_product_5 rc x0 x1 σ = some r) (hk : (fun o : zO => o = out) r) : Gj g MX5_product (lv + 8) 5 [(0, zr x0), (1, zr x1)] [] σ out :=
  gj_loop (P := (fun s : Int × zM => Gj g MX5_product (lv + 8) 5 [(0, zr x0), (1, zr s.1)] [] s.2 out)) (fun s x hb hx => w_X5_product_5_b rc hrc x0 s.1 s.2 hb hx) h hk
noncomputable def f_X5_product (rc : Nat → List Int → zM → Option zO) (x0 : Int) (σ : zM) : Option zO :=
  zcrT (rc 1 [x0] σ) (fun n a σ2 => some (n + 1, zr a, σ2)) fun v1 σ2 =>
  f_X5_product_5 rc x0 v1 σ2
theorem c_X5_product {g : zG} {lv : Nat} {rc : Nat → List Int → zM → Option zO} (hrc : RC_G_X5_expression g (lv + 7) rc) {x0 : Int} {σ : zM} {out : zO} (h : f_X5_product rc x0 σ = some out) : Cj g (lv + 8) MX5_product [zr x0] σ out := by
  refine cj_go (ls := [(0, zr x0)]) (by decide) (Nat.le_of_ble_eq_true rfl) rfl (zgen h (fun r hk => ?_))
  unfold f_X5_product
  refine zst_ (gj_aload_n 0 (pc := 0) dX5_product_0 rfl) ?_
  refine gb_callAT (pc := 1) (as := [zr x0]) (rest := []) (zCl.of (zLk_S (M := MX5_product) plX5_part.1 rfl dX5_product_1 q1327 q1328 q109 q1329) plX5_part (Nat.le_of_ble_eq_true rfl) (fun h => hrc.2.1 h)) (fun n a s0 h => by cases h; exact Or.inl ⟨rfl, hk⟩) (fun v1 σ2 => ?_)
  refine zst_ (gj_astore_n (pc := 4) (ls' := [(1, zr v1), (0, zr x0)]) dX5_product_4 (by decide) rfl) ?_
  refine zst_ (gj_sub [1, 0] rfl) ?_
  exact fun h => w_X5_product_5 rc hrc x0 v1 σ2 h hk
noncomputable def f_X5_sum_22 (rc : Nat → List Int → zM → Option zO) (x0 x1 x2 : Int) (σ : zM) : Option ((Int × Int × zM) ⊕ zO) :=
  (zgf σ 502 x0).bind fun v1 =>
  (zpf σ 502 x0 (zadd v1 1)).bind fun σ2 =>
  (znO σ2 14 3).bind fun σ3 =>
  zlet ((↑(zN σ2) : Int)) fun y4 =>
  zcrT (rc 2 [x0] σ3) (fun n a σ6 => some (.inr (n + 1, zr a, σ6))) fun v5 σ6 =>
  zgd (decide (0 ≤ y4)) <|
  zcv (f_X14_init y4 x2 x1 v5 σ6) fun σ7 =>
  zgd (zis σ7 7 x0 || zis σ7 8 x0) <|
  zci (f_X5_now x0 σ7) fun v8 σ9 =>
  some (.inl (y4, v8, σ9))
theorem w_X5_sum_22 {g : zG} {lv : Nat} {out : zO} (rc : Nat → List Int → zM → Option zO) (hrc : RC_G_X5_expression g (lv + 7) rc) (x0 x1 x2 : Int) (σ : zM) {r : ((Int × Int × zM) ⊕ zO)} (h : f_X5_sum_22 rc x0 x1 x2 σ = some r) (hk : (zKL (fun s : Int × Int × zM => Gj g MX5_sum (lv + 8) 10 [(0, zr x0), (1, zr s.1), (2, zi s.2.1)] [] s.2.2 out) (fun o : zO => o = out)) r) : Gj g MX5_sum (lv + 8) 22 [(0, zr x0), (1, zr x1), (2, zi x2)] [] σ out := by
  revert h
  unfold f_X5_sum_22
  refine zst_ (gj_aload_n 0 (pc := 22) dX5_sum_22 rfl) ?_
  refine zst_ (gj_dup (pc := 23) dX5_sum_23 rfl) ?_
  refine gb_get (pc := 24) fl502 dX5_sum_24 q699 (Or.inl rfl) (fun v1 => ?_)
  refine zst_ (gj_iconst (pc := 27) dX5_sum_27 (by decide)) ?_
  refine zst_ (gj_iadd (pc := 28) dX5_sum_28) ?_
  refine gb_put (pc := 29) fl502 fr502 dX5_sum_29 q699 (Or.inl rfl) (fun σ2 => ?_)
  refine gb_new (pc := 32) (ci := 14) (c := (RX14, TX14, 3)) rfl (by decide) dX5_sum_32 q1355 q1356 q138 (fun σ3 => ?_)
  refine gb_let (fun y4 => ?_)
  refine zst_ (gj_dup (pc := 35) dX5_sum_35 rfl) ?_
  refine zst_ (gj_iload_n 2 (pc := 36) dX5_sum_36 rfl) ?_
  refine zst_ (gj_aload_n 1 (pc := 37) dX5_sum_37 rfl) ?_
  refine zst_ (gj_aload_n 0 (pc := 38) dX5_sum_38 rfl) ?_
  refine gb_callAT (pc := 39) (as := [zr x0]) (rest := [zr x1, zi x2, zr y4, zr y4]) (zCl.of (zLk_S (M := MX5_sum) plX5_product.1 rfl dX5_sum_39 q1324 q1325 q109 q1326) plX5_product (Nat.le_of_ble_eq_true rfl) (fun h => hrc.2.2.1 h)) (fun n a s0 h => by cases h; exact Or.inl ⟨rfl, hk⟩) (fun v5 σ6 => ?_)
  refine gb_gd (fun hb => ?_)
  refine gb_callV (pc := 42) (as := [zr y4, zi x2, zr x1, zr v5]) (rest := [zr y4]) (zCl.of (zLk_IN (M := MX5_sum) plX14_init.1 rfl (of_decide_eq_true hb) rfl rfl dX5_sum_42 q1357 q1358 q1359) plX14_init (Nat.le_of_ble_eq_true rfl) (fun h => c_X14_init h)) (fun σ7 => ?_)
  refine zst_ (gj_astore_n (pc := 45) (ls' := [(1, zr y4), (0, zr x0), (2, zi x2)]) dX5_sum_45 (by decide) rfl) ?_
  refine zst_ (gj_aload_n 1 (pc := 46) dX5_sum_46 rfl) ?_
  refine gb_gd (fun hb => ?_)
  refine gb_callI (pc := 47) (as := [zr x0]) (rest := []) (((Bool.or_eq_true _ _).mp hb).elim (fun hb => (zCl.of (zLk_V (M := MX5_sum) (ci := 6) (r := (RX6, TX6, 8)) plX5_now.1 rfl rfl (zisE hb).1 (zisE hb).2 dX5_sum_47 q1082 q1054 q2460 q1055) plX5_now (Nat.le_of_ble_eq_true rfl) (fun h => c_X5_now h))) (fun hb => (zCl.of (zLk_V (M := MX5_sum) (ci := 7) (r := (RX7, TX7, 10)) plX5_now.1 rfl rfl (zisE hb).1 (zisE hb).2 dX5_sum_47 q1082 q1054 q2459 q1055) plX5_now (Nat.le_of_ble_eq_true rfl) (fun h => c_X5_now h)))) (fun v8 σ9 => ?_)
  refine zst_ (gj_istore_n (pc := 50) (ls' := [(2, zi v8), (1, zr y4), (0, zr x0)]) dX5_sum_50 (by decide) rfl) ?_
  refine zst_ (gj_goto 10 (pc := 51) dX5_sum_51 (by decide)) ?_
  refine zst_ (gj_sub [2, 1, 0] rfl) ?_
  intro h
  cases h
  exact hk
noncomputable def f_X5_sum_54 (rc : Nat → List Int → zM → Option zO) (x1 : Int) (σ : zM) : Option zO :=
  some (0, zr x1, σ)
theorem w_X5_sum_54 {g : zG} {lv : Nat} {out : zO} (rc : Nat → List Int → zM → Option zO) (hrc : RC_G_X5_expression g (lv + 7) rc) (x1 : Int) (σ : zM) {r : zO} (h : f_X5_sum_54 rc x1 σ = some r) (hk : (fun o : zO => o = out) r) : Gj g MX5_sum (lv + 8) 54 [(1, zr x1)] [] σ out := by
  revert h
  unfold f_X5_sum_54
  refine zst_ (gj_aload_n 0 (pc := 54) dX5_sum_54 rfl) ?_
  intro h
  cases h
  have hk : (0, zr x1, σ) = out := hk
  subst hk
  exact gj_aret (pc := 55) dX5_sum_55 rfl (Or.inl ⟨_, rfl⟩)
noncomputable def f_X5_sum_10_b (rc : Nat → List Int → zM → Option zO) (x0 x1 x2 : Int) (σ : zM) : Option ((Int × Int × zM) ⊕ zO) :=
  if x2 = 43 then
    f_X5_sum_22 rc x0 x1 x2 σ
  else
    if x2 ≠ 45 then
      (f_X5_sum_54 rc x1 σ).map (fun r => (.inr r))
    else
      f_X5_sum_22 rc x0 x1 x2 σ
noncomputable def f_X5_sum_10 (rc : Nat → List Int → zM → Option zO) (x0 x1 x2 : Int) (σ : zM) : Option zO :=
  zloop (fun s : Int × Int × zM => f_X5_sum_10_b rc x0 s.1 s.2.1 s.2.2) (x1, x2, σ)
theorem w_X5_sum_10_b {g : zG} {lv : Nat} {out : zO} (rc : Nat → List Int → zM → Option zO) (hrc : RC_G_X5_expression g (lv + 7) rc) (x0 x1 x2 : Int) (σ : zM) {r : ((Int × Int × zM) ⊕ zO)} (h : f_X5_sum_10_b rc x0 x1 x2 σ = some r) (hk : (zKL (fun s : Int × Int × zM => Gj g MX5_sum (lv + 8) 10 [(0, zr x0), (1, zr s.1), (2, zi s.2.1)] [] s.2.2 out) (fun o : zO => o = out)) r) : Gj g MX5_sum (lv + 8) 10 [(0, zr x0), (1, zr x1), (2, zi x2)] [] σ out := by
  revert h
  unfold f_X5_sum_10_b
  refine zst_ (gj_iload_n 2 (pc := 10) dX5_sum_10 rfl) ?_
  refine zst_ (gj_bipush (pc := 11) dX5_sum_11 ⟨rfl, by decide⟩) ?_
  refine gb_if (gj_icmp_eq 22 (pc := 13) dX5_sum_13 (by decide)) ?_ ?_
  · exact fun h => w_X5_sum_22 rc hrc x0 x1 x2 σ h hk
  · refine zst_ (gj_iload_n 2 (pc := 16) dX5_sum_16 rfl) ?_
    refine zst_ (gj_bipush (pc := 17) dX5_sum_17 ⟨rfl, by decide⟩) ?_
    refine gb_if (gj_icmp_ne 54 (pc := 19) dX5_sum_19 (by decide)) ?_ ?_
    · refine zst_ (gj_sub [1] rfl) ?_
      intro h
      obtain ⟨r0, h0, rfl⟩ := zmE h
      exact w_X5_sum_54 rc hrc x1 σ h0 hk
    · exact fun h => w_X5_sum_22 rc hrc x0 x1 x2 σ h hk
theorem w_X5_sum_10 {g : zG} {lv : Nat} {out : zO} (rc : Nat → List Int → zM → Option zO) (hrc : RC_G_X5_expression g (lv + 7) rc) (x0 x1 x2 : Int) (σ : zM) {r : zO} (h : f_X5_sum_10 rc x0 x1 x2 σ = some r) (hk : (fun o : zO => o = out) r) : Gj g MX5_sum (lv + 8) 10 [(0, zr x0), (1, zr x1), (2, zi x2)] [] σ out :=
  gj_loop (P := (fun s : Int × Int × zM => Gj g MX5_sum (lv + 8) 10 [(0, zr x0), (1, zr s.1), (2, zi s.2.1)] [] s.2.2 out)) (fun s x hb hx => w_X5_sum_10_b rc hrc x0 s.1 s.2.1 s.2.2 hb hx) h hk
noncomputable def f_X5_sum (rc : Nat → List Int → zM → Option zO) (x0 : Int) (σ : zM) : Option zO :=
  zcrT (rc 2 [x0] σ) (fun n a σ2 => some (n + 1, zr a, σ2)) fun v1 σ2 =>
  zgd (zis σ2 7 x0 || zis σ2 8 x0) <|
  zci (f_X5_now x0 σ2) fun v3 σ4 =>
  f_X5_sum_10 rc x0 v1 v3 σ4
theorem c_X5_sum {g : zG} {lv : Nat} {rc : Nat → List Int → zM → Option zO} (hrc : RC_G_X5_expression g (lv + 7) rc) {x0 : Int} {σ : zM} {out : zO} (h : f_X5_sum rc x0 σ = some out) : Cj g (lv + 8) MX5_sum [zr x0] σ out := by
  refine cj_go (ls := [(0, zr x0)]) (by decide) (Nat.le_of_ble_eq_true rfl) rfl (zgen h (fun r hk => ?_))
  unfold f_X5_sum
  refine zst_ (gj_aload_n 0 (pc := 0) dX5_sum_0 rfl) ?_
  refine gb_callAT (pc := 1) (as := [zr x0]) (rest := []) (zCl.of (zLk_S (M := MX5_sum) plX5_product.1 rfl dX5_sum_1 q1324 q1325 q109 q1326) plX5_product (Nat.le_of_ble_eq_true rfl) (fun h => hrc.2.2.1 h)) (fun n a s0 h => by cases h; exact Or.inl ⟨rfl, hk⟩) (fun v1 σ2 => ?_)
  refine zst_ (gj_astore_n (pc := 4) (ls' := [(1, zr v1), (0, zr x0)]) dX5_sum_4 (by decide) rfl) ?_
  refine zst_ (gj_aload_n 1 (pc := 5) dX5_sum_5 rfl) ?_
  refine gb_gd (fun hb => ?_)
  refine gb_callI (pc := 6) (as := [zr x0]) (rest := []) (((Bool.or_eq_true _ _).mp hb).elim (fun hb => (zCl.of (zLk_V (M := MX5_sum) (ci := 6) (r := (RX6, TX6, 8)) plX5_now.1 rfl rfl (zisE hb).1 (zisE hb).2 dX5_sum_6 q1082 q1054 q2460 q1055) plX5_now (Nat.le_of_ble_eq_true rfl) (fun h => c_X5_now h))) (fun hb => (zCl.of (zLk_V (M := MX5_sum) (ci := 7) (r := (RX7, TX7, 10)) plX5_now.1 rfl rfl (zisE hb).1 (zisE hb).2 dX5_sum_6 q1082 q1054 q2459 q1055) plX5_now (Nat.le_of_ble_eq_true rfl) (fun h => c_X5_now h)))) (fun v3 σ4 => ?_)
  refine zst_ (gj_istore_n (pc := 9) (ls' := [(2, zi v3), (1, zr v1), (0, zr x0)]) dX5_sum_9 (by decide) rfl) ?_
  refine zst_ (gj_sub [2, 1, 0] rfl) ?_
  exact fun h => w_X5_sum_10 rc hrc x0 v1 v3 σ4 h hk
noncomputable def f_G_X5_expression : Nat → Nat → List Int → zM → Option zO
  | 0, _, _, _ => none
  | d + 1, tg, as, σ => match tg, as with
    | 0, [x0] => f_X5_expression (f_G_X5_expression d) x0 σ
    | 1, [x0] => f_X5_part (f_G_X5_expression d) x0 σ
    | 2, [x0] => f_X5_product (f_G_X5_expression d) x0 σ
    | 3, [x0] => f_X5_sum (f_G_X5_expression d) x0 σ
    | _, _ => none
theorem rc_G_X5_expression (g : zG) : ∀ (d : Nat) {lv : Nat}, RC_G_X5_expression g (lv + 7 + d) (f_G_X5_expression d)
  | 0, lv => ⟨(fun h => by cases h), (fun h => by cases h), (fun h => by cases h), (fun h => by cases h), trivial⟩
  | d + 1, lv => by
    have ih := rc_G_X5_expression g d (lv := lv)
    rw [show lv + 7 + d = lv + d + 7 by omega] at ih
    rw [show lv + 7 + (d + 1) = lv + d + 8 by omega]
    exact ⟨fun h => c_X5_expression (lv := lv + d) ih h, fun h => c_X5_part (lv := lv + d) ih h, fun h => c_X5_product (lv := lv + d) ih h, fun h => c_X5_sum (lv := lv + d) ih h, trivial⟩
theorem c_G_X5_expression_0 {g : zG} {lv : Nat} {x0 : Int} {σ : zM} {out : zO} (h : f_G_X5_expression 40 0 [x0] σ = some out) : Cj g (lv + 47) MX5_expression [zr x0] σ out := (rc_G_X5_expression g 40 (lv := lv)).1 h
theorem c_G_X5_expression_1 {g : zG} {lv : Nat} {x0 : Int} {σ : zM} {out : zO} (h : f_G_X5_expression 40 1 [x0] σ = some out) : Cj g (lv + 47) MX5_part [zr x0] σ out := (rc_G_X5_expression g 40 (lv := lv)).2.1 h
theorem c_G_X5_expression_2 {g : zG} {lv : Nat} {x0 : Int} {σ : zM} {out : zO} (h : f_G_X5_expression 40 2 [x0] σ = some out) : Cj g (lv + 47) MX5_product [zr x0] σ out := (rc_G_X5_expression g 40 (lv := lv)).2.2.1 h
theorem c_G_X5_expression_3 {g : zG} {lv : Nat} {x0 : Int} {σ : zM} {out : zO} (h : f_G_X5_expression 40 3 [x0] σ = some out) : Cj g (lv + 47) MX5_sum [zr x0] σ out := (rc_G_X5_expression g 40 (lv := lv)).2.2.2.1 h
theorem q1317 : (Jvm.Cond.code ({ cls := "LassoFinder$Reader", name := "whole", desc := "(I)LLassoFinder$Expression;" } : Jvm.MethodName) prog_16_method_8_code (2 : Nat) (Option.some (Jvm.ClassFile.FieldType.object "LassoFinder$Expression"))) ∈ lw_all := lw_g (lw_at lw_m6 17 rfl) rfl
abbrev cX5_whole : ByteArray := prog_16_method_8_code
def yX5_whole : MethodName := ⟨RX5, "whole", "(I)LLassoFinder$Expression;"⟩
theorem dX5_whole_0 : decode cX5_whole 0 = .ok (.aload_n 0, 1) := by decide +kernel
theorem dX5_whole_1 : decode cX5_whole 1 = .ok (.iload_n 1, 1) := by decide +kernel
theorem dX5_whole_2 : decode cX5_whole 2 = .ok (.putfield 50, 3) := by decide +kernel
theorem dX5_whole_5 : decode cX5_whole 5 = .ok (.aload_n 0, 1) := by decide +kernel
theorem dX5_whole_6 : decode cX5_whole 6 = .ok (.iconst 0, 1) := by decide +kernel
theorem dX5_whole_7 : decode cX5_whole 7 = .ok (.putfield 53, 3) := by decide +kernel
theorem dX5_whole_10 : decode cX5_whole 10 = .ok (.aload_n 0, 1) := by decide +kernel
theorem dX5_whole_11 : decode cX5_whole 11 = .ok (.invokestatic 56, 3) := by decide +kernel
theorem dX5_whole_14 : decode cX5_whole 14 = .ok (.areturn, 1) := by decide +kernel
abbrev MX5_whole : zT := (yX5_whole, cX5_whole, 2, (Option.some (Jvm.ClassFile.FieldType.object "LassoFinder$Expression")), [])
theorem plX5_whole : zplain MX5_whole 1 ∧ (zcodeW MX5_whole ∈ lw_all ∧ Cond.initialized MX5_whole.1.cls ∈ lw_all) := ⟨⟨by decide +kernel, by decide +kernel⟩, q1317, q109⟩
noncomputable def f_X5_whole (x0 x1 : Int) (σ : zM) : Option zO :=
  (zpf σ 503 x0 x1).bind fun σ1 =>
  (zpf σ1 504 x0 0).bind fun σ2 =>
  zcrT (f_G_X5_expression 40 0 [x0] σ2) (fun n a σ4 => some (n + 1, zr a, σ4)) fun v3 σ4 =>
  some (0, zr v3, σ4)
theorem c_X5_whole {g : zG} {lv : Nat} {x0 x1 : Int} {σ : zM} {out : zO} (h : f_X5_whole x0 x1 σ = some out) : Cj g (lv + 48) MX5_whole [zr x0, zi x1] σ out := by
  refine cj_go (ls := [(0, zr x0), (1, zi x1)]) (by decide) (Nat.le_of_ble_eq_true rfl) rfl (zgen h (fun r hk => ?_))
  unfold f_X5_whole
  refine zst_ (gj_aload_n 0 (pc := 0) dX5_whole_0 rfl) ?_
  refine zst_ (gj_iload_n 1 (pc := 1) dX5_whole_1 rfl) ?_
  refine gb_put (pc := 2) fl503 fr503 dX5_whole_2 q706 (Or.inl rfl) (fun σ1 => ?_)
  refine zst_ (gj_aload_n 0 (pc := 5) dX5_whole_5 rfl) ?_
  refine zst_ (gj_iconst (pc := 6) dX5_whole_6 (by decide)) ?_
  refine gb_put (pc := 7) fl504 fr504 dX5_whole_7 q707 (Or.inl rfl) (fun σ2 => ?_)
  refine zst_ (gj_aload_n 0 (pc := 10) dX5_whole_10 rfl) ?_
  refine gb_callAT (pc := 11) (as := [zr x0]) (rest := []) (zCl.of (zLk_S (M := MX5_whole) plX5_expression.1 rfl dX5_whole_11 q1318 q1319 q109 q1320) plX5_expression (Nat.le_of_ble_eq_true rfl) (fun h => c_G_X5_expression_0 h)) (fun n a s0 h => by cases h; exact Or.inl ⟨rfl, hk⟩) (fun v3 σ4 => ?_)
  intro h
  cases h
  have hk : (0, zr v3, σ4) = out := hk
  subst hk
  exact gj_aret (pc := 14) dX5_whole_14 rfl (Or.inl ⟨_, rfl⟩)
theorem q1173 : (Jvm.Cond.fieldLinkNest "LassoFinder$ModelReader" (290 : Nat) "LassoFinder$Statement" "other" "I" "LassoFinder") ∈ lw_tbl := lw_at lw_m5 113 rfl
theorem q1181 : (Jvm.Cond.fieldLinkNest "LassoFinder$ModelReader" (274 : Nat) "LassoFinder$Statement" "what" "LLassoFinder$Expression;" "LassoFinder") ∈ lw_tbl := lw_at lw_m5 121 rfl
theorem q1312 : (Jvm.Cond.methodLink "LassoFinder$ModelReader" (270 : Nat) ({ cls := "LassoFinder$ModelReader", name := "whole", desc := "(I)LLassoFinder$Expression;" } : Jvm.MethodName)) ∈ lw_all := lw_g (lw_at lw_m6 12 rfl) rfl
theorem q1313 : (Jvm.Cond.sameMethod "LassoFinder$ModelReader" "LassoFinder$Reader" "whole" "(I)LLassoFinder$Expression;") ∈ lw_all := lw_g (lw_at lw_m6 13 rfl) rfl
theorem q1315 : (Jvm.Cond.selects "LassoFinder$ModelReader" ({ cls := "LassoFinder$ModelReader", name := "whole", desc := "(I)LLassoFinder$Expression;" } : Jvm.MethodName) ({ cls := "LassoFinder$Reader", name := "whole", desc := "(I)LLassoFinder$Expression;" } : Jvm.MethodName)) ∈ lw_all := lw_g (lw_at lw_m6 15 rfl) rfl
theorem q1316 : (Jvm.Cond.instanceMethod ({ cls := "LassoFinder$Reader", name := "whole", desc := "(I)LLassoFinder$Expression;" } : Jvm.MethodName)) ∈ lw_all := lw_g (lw_at lw_m6 16 rfl) rfl
theorem q1374 : (Jvm.Cond.code ({ cls := "LassoFinder$ModelReader", name := "action", desc := "(LLassoFinder$Statement;)V" } : Jvm.MethodName) prog_10_method_16_code (3 : Nat) (Option.none : Option Jvm.ClassFile.FieldType)) ∈ lw_all := lw_g (lw_at lw_m6 74 rfl) rfl
theorem q1375 : (Jvm.Cond.fieldLink "LassoFinder$ModelReader" (281 : Nat) "LassoFinder$Kind" "SET" "LLassoFinder$Kind;") ∈ lw_all := lw_g (lw_at lw_m6 75 rfl) rfl
theorem q1377 : (Jvm.Cond.fieldLink "LassoFinder$ModelReader" (284 : Nat) "LassoFinder$Kind" "SEND" "LLassoFinder$Kind;") ∈ lw_all := lw_g (lw_at lw_m6 77 rfl) rfl
theorem q1379 : (Jvm.Cond.fieldLink "LassoFinder$ModelReader" (287 : Nat) "LassoFinder$Kind" "RECEIVE" "LLassoFinder$Kind;") ∈ lw_all := lw_g (lw_at lw_m6 79 rfl) rfl
abbrev cX6_action : ByteArray := prog_10_method_16_code
def yX6_action : MethodName := ⟨RX6, "action", "(LLassoFinder$Statement;)V"⟩
theorem dX6_action_0 : decode cX6_action 0 = .ok (.aload_n 0, 1) := by decide +kernel
theorem dX6_action_1 : decode cX6_action 1 = .ok (.invokevirtual 57, 3) := by decide +kernel
theorem dX6_action_4 : decode cX6_action 4 = .ok (.istore_n 2, 1) := by decide +kernel
theorem dX6_action_5 : decode cX6_action 5 = .ok (.aload_n 0, 1) := by decide +kernel
theorem dX6_action_6 : decode cX6_action 6 = .ok (.getfield 48, 3) := by decide +kernel
theorem dX6_action_9 : decode cX6_action 9 = .ok (.getfield 80, 3) := by decide +kernel
theorem dX6_action_12 : decode cX6_action 12 = .ok (.aload_n 1, 1) := by decide +kernel
theorem dX6_action_13 : decode cX6_action 13 = .ok (.getfield 147, 3) := by decide +kernel
theorem dX6_action_16 : decode cX6_action 16 = .ok (.iaload, 1) := by decide +kernel
theorem dX6_action_17 : decode cX6_action 17 = .ok (.iconst 1, 1) := by decide +kernel
theorem dX6_action_18 : decode cX6_action 18 = .ok (.if_icmp .ne 17, 3) := by decide +kernel
theorem dX6_action_21 : decode cX6_action 21 = .ok (.iload_n 2, 1) := by decide +kernel
theorem dX6_action_22 : decode cX6_action 22 = .ok (.bipush 61, 2) := by decide +kernel
theorem dX6_action_24 : decode cX6_action 24 = .ok (.if_icmp .ne 7, 3) := by decide +kernel
theorem dX6_action_27 : decode cX6_action 27 = .ok (.iconst 1, 1) := by decide +kernel
theorem dX6_action_28 : decode cX6_action 28 = .ok (.goto 24, 3) := by decide +kernel
theorem dX6_action_31 : decode cX6_action 31 = .ok (.iconst 0, 1) := by decide +kernel
theorem dX6_action_32 : decode cX6_action 32 = .ok (.goto 20, 3) := by decide +kernel
theorem dX6_action_35 : decode cX6_action 35 = .ok (.iload_n 2, 1) := by decide +kernel
theorem dX6_action_36 : decode cX6_action 36 = .ok (.bipush 33, 2) := by decide +kernel
theorem dX6_action_38 : decode cX6_action 38 = .ok (.if_icmp .eq 9, 3) := by decide +kernel
theorem dX6_action_41 : decode cX6_action 41 = .ok (.iload_n 2, 1) := by decide +kernel
theorem dX6_action_42 : decode cX6_action 42 = .ok (.bipush 63, 2) := by decide +kernel
theorem dX6_action_44 : decode cX6_action 44 = .ok (.if_icmp .ne 7, 3) := by decide +kernel
theorem dX6_action_47 : decode cX6_action 47 = .ok (.iconst 1, 1) := by decide +kernel
theorem dX6_action_48 : decode cX6_action 48 = .ok (.goto 4, 3) := by decide +kernel
theorem dX6_action_51 : decode cX6_action 51 = .ok (.iconst 0, 1) := by decide +kernel
theorem dX6_action_52 : decode cX6_action 52 = .ok (.invokestatic 90, 3) := by decide +kernel
theorem dX6_action_55 : decode cX6_action 55 = .ok (.aload_n 0, 1) := by decide +kernel
theorem dX6_action_56 : decode cX6_action 56 = .ok (.dup, 1) := by decide +kernel
theorem dX6_action_57 : decode cX6_action 57 = .ok (.getfield 41, 3) := by decide +kernel
theorem dX6_action_60 : decode cX6_action 60 = .ok (.iconst 1, 1) := by decide +kernel
theorem dX6_action_61 : decode cX6_action 61 = .ok (.iadd, 1) := by decide +kernel
theorem dX6_action_62 : decode cX6_action 62 = .ok (.putfield 41, 3) := by decide +kernel
theorem dX6_action_65 : decode cX6_action 65 = .ok (.aload_n 1, 1) := by decide +kernel
theorem dX6_action_66 : decode cX6_action 66 = .ok (.iload_n 2, 1) := by decide +kernel
theorem dX6_action_67 : decode cX6_action 67 = .ok (.bipush 61, 2) := by decide +kernel
theorem dX6_action_69 : decode cX6_action 69 = .ok (.if_icmp .ne 9, 3) := by decide +kernel
theorem dX6_action_72 : decode cX6_action 72 = .ok (.getstatic 281, 3) := by decide +kernel
theorem dX6_action_75 : decode cX6_action 75 = .ok (.goto 18, 3) := by decide +kernel
theorem dX6_action_78 : decode cX6_action 78 = .ok (.iload_n 2, 1) := by decide +kernel
theorem dX6_action_79 : decode cX6_action 79 = .ok (.bipush 33, 2) := by decide +kernel
theorem dX6_action_81 : decode cX6_action 81 = .ok (.if_icmp .ne 9, 3) := by decide +kernel
theorem dX6_action_84 : decode cX6_action 84 = .ok (.getstatic 284, 3) := by decide +kernel
theorem dX6_action_87 : decode cX6_action 87 = .ok (.goto 6, 3) := by decide +kernel
theorem dX6_action_90 : decode cX6_action 90 = .ok (.getstatic 287, 3) := by decide +kernel
theorem dX6_action_93 : decode cX6_action 93 = .ok (.putfield 134, 3) := by decide +kernel
theorem dX6_action_96 : decode cX6_action 96 = .ok (.iload_n 2, 1) := by decide +kernel
theorem dX6_action_97 : decode cX6_action 97 = .ok (.bipush 63, 2) := by decide +kernel
theorem dX6_action_99 : decode cX6_action 99 = .ok (.if_icmp .ne 63, 3) := by decide +kernel
theorem dX6_action_102 : decode cX6_action 102 = .ok (.aload_n 0, 1) := by decide +kernel
theorem dX6_action_103 : decode cX6_action 103 = .ok (.invokevirtual 57, 3) := by decide +kernel
theorem dX6_action_106 : decode cX6_action 106 = .ok (.bipush 97, 2) := by decide +kernel
theorem dX6_action_108 : decode cX6_action 108 = .ok (.if_icmp .lt 35, 3) := by decide +kernel
theorem dX6_action_111 : decode cX6_action 111 = .ok (.aload_n 0, 1) := by decide +kernel
theorem dX6_action_112 : decode cX6_action 112 = .ok (.invokevirtual 57, 3) := by decide +kernel
theorem dX6_action_115 : decode cX6_action 115 = .ok (.bipush 104, 2) := by decide +kernel
theorem dX6_action_117 : decode cX6_action 117 = .ok (.if_icmp .gt 26, 3) := by decide +kernel
theorem dX6_action_120 : decode cX6_action 120 = .ok (.aload_n 0, 1) := by decide +kernel
theorem dX6_action_121 : decode cX6_action 121 = .ok (.getfield 48, 3) := by decide +kernel
theorem dX6_action_124 : decode cX6_action 124 = .ok (.getfield 80, 3) := by decide +kernel
theorem dX6_action_127 : decode cX6_action 127 = .ok (.aload_n 0, 1) := by decide +kernel
theorem dX6_action_128 : decode cX6_action 128 = .ok (.invokevirtual 57, 3) := by decide +kernel
theorem dX6_action_131 : decode cX6_action 131 = .ok (.bipush 97, 2) := by decide +kernel
theorem dX6_action_133 : decode cX6_action 133 = .ok (.isub, 1) := by decide +kernel
theorem dX6_action_134 : decode cX6_action 134 = .ok (.iaload, 1) := by decide +kernel
theorem dX6_action_135 : decode cX6_action 135 = .ok (.iconst 1, 1) := by decide +kernel
theorem dX6_action_136 : decode cX6_action 136 = .ok (.if_icmp .ne 7, 3) := by decide +kernel
theorem dX6_action_139 : decode cX6_action 139 = .ok (.iconst 1, 1) := by decide +kernel
theorem dX6_action_140 : decode cX6_action 140 = .ok (.goto 4, 3) := by decide +kernel
theorem dX6_action_143 : decode cX6_action 143 = .ok (.iconst 0, 1) := by decide +kernel
theorem dX6_action_144 : decode cX6_action 144 = .ok (.invokestatic 90, 3) := by decide +kernel
theorem dX6_action_147 : decode cX6_action 147 = .ok (.aload_n 1, 1) := by decide +kernel
theorem dX6_action_148 : decode cX6_action 148 = .ok (.aload_n 0, 1) := by decide +kernel
theorem dX6_action_149 : decode cX6_action 149 = .ok (.bipush 97, 2) := by decide +kernel
theorem dX6_action_151 : decode cX6_action 151 = .ok (.bipush 8, 2) := by decide +kernel
theorem dX6_action_153 : decode cX6_action 153 = .ok (.invokevirtual 94, 3) := by decide +kernel
theorem dX6_action_156 : decode cX6_action 156 = .ok (.putfield 290, 3) := by decide +kernel
theorem dX6_action_159 : decode cX6_action 159 = .ok (.goto 12, 3) := by decide +kernel
theorem dX6_action_162 : decode cX6_action 162 = .ok (.aload_n 1, 1) := by decide +kernel
theorem dX6_action_163 : decode cX6_action 163 = .ok (.aload_n 0, 1) := by decide +kernel
theorem dX6_action_164 : decode cX6_action 164 = .ok (.iconst 0, 1) := by decide +kernel
theorem dX6_action_165 : decode cX6_action 165 = .ok (.invokevirtual 270, 3) := by decide +kernel
theorem dX6_action_168 : decode cX6_action 168 = .ok (.putfield 274, 3) := by decide +kernel
theorem dX6_action_171 : decode cX6_action 171 = .ok (.return_, 1) := by decide +kernel
abbrev MX6_action : zT := (yX6_action, cX6_action, 3, (Option.none : Option Jvm.ClassFile.FieldType), [])
theorem plX6_action : zplain MX6_action 1 ∧ (zcodeW MX6_action ∈ lw_all ∧ Cond.initialized MX6_action.1.cls ∈ lw_all) := ⟨⟨by decide +kernel, by decide +kernel⟩, q1374, q110⟩
noncomputable def f_X6_action_171 (σ : zM) : Option zO :=
  some (0, ((3, 0) : zV), σ)
theorem w_X6_action_171 {g : zG} {lv : Nat} {out : zO} (σ : zM) {r : zO} (h : f_X6_action_171  σ = some r) (hk : (fun o : zO => o = out) r) : Gj g MX6_action (lv + 49) 171 [] [] σ out := by
  revert h
  unfold f_X6_action_171
  intro h
  cases h
  have hk : (0, ((3, 0) : zV), σ) = out := hk
  subst hk
  exact gj_vret (pc := 171) dX6_action_171 rfl
noncomputable def f_X6_action_144 (x0 x1 t0 : Int) (σ : zM) : Option zO :=
  zcvT (f_X5_need t0 σ) (fun n a σ1 => some (n + 1, zr a, σ1)) fun σ1 =>
  zgd (zis σ1 7 x0) <|
  zciT (f_X5_letter x0 97 8 σ1) (fun n a σ3 => some (n + 1, zr a, σ3)) fun v2 σ3 =>
  (zpf σ3 1108 x1 v2).bind fun σ4 =>
  f_X6_action_171 σ4
theorem w_X6_action_144 {g : zG} {lv : Nat} {out : zO} (x0 x1 t0 : Int) (σ : zM) {r : zO} (h : f_X6_action_144 x0 x1 t0 σ = some r) (hk : (fun o : zO => o = out) r) : Gj g MX6_action (lv + 49) 144 [(0, zr x0), (1, zr x1)] [zi t0] σ out := by
  revert h
  unfold f_X6_action_144
  refine gb_callVT (pc := 144) (as := [zi t0]) (rest := []) (zCl.of (zLk_SU (M := MX6_action) (x := ⟨"LassoFinder$ModelReader", "need", "(Z)V"⟩) plX5_need.1 ⟨rfl, rfl⟩ rfl dX6_action_144 q1083 q1084 q1085 q109 q1086) plX5_need (Nat.le_of_ble_eq_true rfl) (fun h => c_X5_need h)) (fun n a s0 h => by cases h; exact Or.inl ⟨rfl, hk⟩) (fun σ1 => ?_)
  refine zst_ (gj_aload_n 1 (pc := 147) dX6_action_147 rfl) ?_
  refine zst_ (gj_aload_n 0 (pc := 148) dX6_action_148 rfl) ?_
  refine zst_ (gj_bipush (pc := 149) dX6_action_149 ⟨rfl, by decide⟩) ?_
  refine zst_ (gj_bipush (pc := 151) dX6_action_151 ⟨rfl, by decide⟩) ?_
  refine gb_gd (fun hb => ?_)
  refine gb_callIT (pc := 153) (as := [zr x0, zi 97, zi 8]) (rest := [zr x1]) (zCl.of (zLk_VU (M := MX6_action) (ci := 6) (r := (RX6, TX6, 8)) (x := ⟨"LassoFinder$ModelReader", "letter", "(CI)I"⟩) plX5_letter.1 ⟨rfl, rfl⟩ rfl rfl (zisE hb).1 (zisE hb).2 dX6_action_153 q1098 q1099 q1102 q1101 q1103) plX5_letter (Nat.le_of_ble_eq_true rfl) (fun h => c_X5_letter h)) (fun n a s0 h => by cases h; exact Or.inl ⟨rfl, hk⟩) (fun v2 σ3 => ?_)
  refine gb_putNe (pc := 156) fl1108 fr1108 dX6_action_156 q1173 (Or.inl rfl) (fun σ4 => ?_)
  refine zst_ (gj_goto 171 (pc := 159) dX6_action_159 (by decide)) ?_
  refine zst_ (gj_sub [] rfl) ?_
  exact fun h => w_X6_action_171 σ4 h hk
noncomputable def f_X6_action_143 (x0 x1 : Int) (σ : zM) : Option zO :=
  f_X6_action_144 x0 x1 0 σ
theorem w_X6_action_143 {g : zG} {lv : Nat} {out : zO} (x0 x1 : Int) (σ : zM) {r : zO} (h : f_X6_action_143 x0 x1 σ = some r) (hk : (fun o : zO => o = out) r) : Gj g MX6_action (lv + 49) 143 [(0, zr x0), (1, zr x1)] [] σ out := by
  revert h
  unfold f_X6_action_143
  refine zst_ (gj_iconst (pc := 143) dX6_action_143 (by decide)) ?_
  exact fun h => w_X6_action_144 x0 x1 0 σ h hk
noncomputable def f_X6_action_93 (x0 x1 x2 t0 t1 : Int) (σ : zM) : Option zO :=
  (zpf σ 1100 t1 t0).bind fun σ1 =>
  if x2 ≠ 63 then
    zgd (zis σ1 7 x0) <|
    zcrT (f_X5_whole x0 0 σ1) (fun n a σ3 => some (n + 1, zr a, σ3)) fun v2 σ3 =>
    (zpf σ3 1111 x1 v2).bind fun σ4 =>
    f_X6_action_171 σ4
  else
    zgd (zis σ1 7 x0) <|
    zci (f_X5_now x0 σ1) fun v5 σ6 =>
    if v5 < 97 then
      f_X6_action_143 x0 x1 σ6
    else
      zgd (zis σ6 7 x0) <|
      zci (f_X5_now x0 σ6) fun v7 σ8 =>
      if 104 < v7 then
        f_X6_action_143 x0 x1 σ8
      else
        (zgf σ8 500 x0).bind fun v9 =>
        (zgf σ8 200 v9).bind fun v10 =>
        zgd (zis σ8 7 x0) <|
        zci (f_X5_now x0 σ8) fun v11 σ12 =>
        (zga σ12 101 v10 (zsub v11 97)).bind fun v13 =>
        if v13 ≠ 1 then
          f_X6_action_143 x0 x1 σ12
        else
          f_X6_action_144 x0 x1 1 σ12
theorem w_X6_action_93 {g : zG} {lv : Nat} {out : zO} (x0 x1 x2 t0 t1 : Int) (σ : zM) {r : zO} (h : f_X6_action_93 x0 x1 x2 t0 t1 σ = some r) (hk : (fun o : zO => o = out) r) : Gj g MX6_action (lv + 49) 93 [(0, zr x0), (1, zr x1), (2, zi x2)] [zr t0, zr t1] σ out := by
  revert h
  unfold f_X6_action_93
  refine gb_putNe (pc := 93) fl1100 fr1100 dX6_action_93 q1155 (Or.inl rfl) (fun σ1 => ?_)
  refine zst_ (gj_iload_n 2 (pc := 96) dX6_action_96 rfl) ?_
  refine zst_ (gj_bipush (pc := 97) dX6_action_97 ⟨rfl, by decide⟩) ?_
  refine gb_if (gj_icmp_ne 162 (pc := 99) dX6_action_99 (by decide)) ?_ ?_
  · refine zst_ (gj_aload_n 1 (pc := 162) dX6_action_162 rfl) ?_
    refine zst_ (gj_aload_n 0 (pc := 163) dX6_action_163 rfl) ?_
    refine zst_ (gj_iconst (pc := 164) dX6_action_164 (by decide)) ?_
    refine gb_gd (fun hb => ?_)
    refine gb_callAT (pc := 165) (as := [zr x0, zi 0]) (rest := [zr x1]) (zCl.of (zLk_VU (M := MX6_action) (ci := 6) (r := (RX6, TX6, 8)) (x := ⟨"LassoFinder$ModelReader", "whole", "(I)LLassoFinder$Expression;"⟩) plX5_whole.1 ⟨rfl, rfl⟩ rfl rfl (zisE hb).1 (zisE hb).2 dX6_action_165 q1312 q1313 q1316 q1315 q1317) plX5_whole (Nat.le_of_ble_eq_true rfl) (fun h => c_X5_whole h)) (fun n a s0 h => by cases h; exact Or.inl ⟨rfl, hk⟩) (fun v2 σ3 => ?_)
    refine gb_putNe (pc := 168) fl1111 fr1111 dX6_action_168 q1181 (Or.inl rfl) (fun σ4 => ?_)
    refine zst_ (gj_sub [] rfl) ?_
    exact fun h => w_X6_action_171 σ4 h hk
  · refine zst_ (gj_aload_n 0 (pc := 102) dX6_action_102 rfl) ?_
    refine gb_gd (fun hb => ?_)
    refine gb_callI (pc := 103) (as := [zr x0]) (rest := []) (zCl.of (zLk_VU (M := MX6_action) (ci := 6) (r := (RX6, TX6, 8)) (x := ⟨"LassoFinder$ModelReader", "now", "()C"⟩) plX5_now.1 ⟨rfl, rfl⟩ rfl rfl (zisE hb).1 (zisE hb).2 dX6_action_103 q1050 q1051 q1054 q1053 q1055) plX5_now (Nat.le_of_ble_eq_true rfl) (fun h => c_X5_now h)) (fun v5 σ6 => ?_)
    refine zst_ (gj_bipush (pc := 106) dX6_action_106 ⟨rfl, by decide⟩) ?_
    refine gb_if (gj_icmp_lt 143 (pc := 108) dX6_action_108 (by decide)) ?_ ?_
    · refine zst_ (gj_sub [0, 1] rfl) ?_
      exact fun h => w_X6_action_143 x0 x1 σ6 h hk
    · refine zst_ (gj_aload_n 0 (pc := 111) dX6_action_111 rfl) ?_
      refine gb_gd (fun hb => ?_)
      refine gb_callI (pc := 112) (as := [zr x0]) (rest := []) (zCl.of (zLk_VU (M := MX6_action) (ci := 6) (r := (RX6, TX6, 8)) (x := ⟨"LassoFinder$ModelReader", "now", "()C"⟩) plX5_now.1 ⟨rfl, rfl⟩ rfl rfl (zisE hb).1 (zisE hb).2 dX6_action_112 q1050 q1051 q1054 q1053 q1055) plX5_now (Nat.le_of_ble_eq_true rfl) (fun h => c_X5_now h)) (fun v7 σ8 => ?_)
      refine zst_ (gj_bipush (pc := 115) dX6_action_115 ⟨rfl, by decide⟩) ?_
      refine gb_if (gj_icmp_gt 143 (pc := 117) dX6_action_117 (by decide)) ?_ ?_
      · refine zst_ (gj_sub [0, 1] rfl) ?_
        exact fun h => w_X6_action_143 x0 x1 σ8 h hk
      · refine zst_ (gj_aload_n 0 (pc := 120) dX6_action_120 rfl) ?_
        refine gb_get (pc := 121) fl500 dX6_action_121 q690 (Or.inr q691) (fun v9 => ?_)
        refine gb_getNe (pc := 124) fl200 dX6_action_124 q269 (Or.inl rfl) (fun v10 => ?_)
        refine zst_ (gj_aload_n 0 (pc := 127) dX6_action_127 rfl) ?_
        refine gb_gd (fun hb => ?_)
        refine gb_callI (pc := 128) (as := [zr x0]) (rest := [zr v10]) (zCl.of (zLk_VU (M := MX6_action) (ci := 6) (r := (RX6, TX6, 8)) (x := ⟨"LassoFinder$ModelReader", "now", "()C"⟩) plX5_now.1 ⟨rfl, rfl⟩ rfl rfl (zisE hb).1 (zisE hb).2 dX6_action_128 q1050 q1051 q1054 q1053 q1055) plX5_now (Nat.le_of_ble_eq_true rfl) (fun h => c_X5_now h)) (fun v11 σ12 => ?_)
        refine zst_ (gj_bipush (pc := 131) dX6_action_131 ⟨rfl, by decide⟩) ?_
        refine zst_ (gj_isub (pc := 133) dX6_action_133) ?_
        refine gb_iald (pc := 134) dX6_action_134 (fun v13 => ?_)
        refine zst_ (gj_iconst (pc := 135) dX6_action_135 (by decide)) ?_
        refine gb_if (gj_icmp_ne 143 (pc := 136) dX6_action_136 (by decide)) ?_ ?_
        · refine zst_ (gj_sub [0, 1] rfl) ?_
          exact fun h => w_X6_action_143 x0 x1 σ12 h hk
        · refine zst_ (gj_iconst (pc := 139) dX6_action_139 (by decide)) ?_
          refine zst_ (gj_goto 144 (pc := 140) dX6_action_140 (by decide)) ?_
          refine zst_ (gj_sub [0, 1] rfl) ?_
          exact fun h => w_X6_action_144 x0 x1 1 σ12 h hk
noncomputable def f_X6_action_52 (x0 x1 x2 t0 : Int) (σ : zM) : Option zO :=
  zcvT (f_X5_need t0 σ) (fun n a σ1 => some (n + 1, zr a, σ1)) fun σ1 =>
  (zgf σ1 502 x0).bind fun v2 =>
  (zpf σ1 502 x0 (zadd v2 1)).bind fun σ3 =>
  if x2 ≠ 61 then
    if x2 ≠ 33 then
      f_X6_action_93 x0 x1 x2 (-5) x1 σ3
    else
      f_X6_action_93 x0 x1 x2 (-4) x1 σ3
  else
    f_X6_action_93 x0 x1 x2 (-2) x1 σ3
theorem w_X6_action_52 {g : zG} {lv : Nat} {out : zO} (x0 x1 x2 t0 : Int) (σ : zM) {r : zO} (h : f_X6_action_52 x0 x1 x2 t0 σ = some r) (hk : (fun o : zO => o = out) r) : Gj g MX6_action (lv + 49) 52 [(0, zr x0), (1, zr x1), (2, zi x2)] [zi t0] σ out := by
  revert h
  unfold f_X6_action_52
  refine gb_callVT (pc := 52) (as := [zi t0]) (rest := []) (zCl.of (zLk_SU (M := MX6_action) (x := ⟨"LassoFinder$ModelReader", "need", "(Z)V"⟩) plX5_need.1 ⟨rfl, rfl⟩ rfl dX6_action_52 q1083 q1084 q1085 q109 q1086) plX5_need (Nat.le_of_ble_eq_true rfl) (fun h => c_X5_need h)) (fun n a s0 h => by cases h; exact Or.inl ⟨rfl, hk⟩) (fun σ1 => ?_)
  refine zst_ (gj_aload_n 0 (pc := 55) dX6_action_55 rfl) ?_
  refine zst_ (gj_dup (pc := 56) dX6_action_56 rfl) ?_
  refine gb_get (pc := 57) fl502 dX6_action_57 q702 (Or.inr q703) (fun v2 => ?_)
  refine zst_ (gj_iconst (pc := 60) dX6_action_60 (by decide)) ?_
  refine zst_ (gj_iadd (pc := 61) dX6_action_61) ?_
  refine gb_put (pc := 62) fl502 fr502 dX6_action_62 q702 (Or.inr q703) (fun σ3 => ?_)
  refine zst_ (gj_aload_n 1 (pc := 65) dX6_action_65 rfl) ?_
  refine zst_ (gj_iload_n 2 (pc := 66) dX6_action_66 rfl) ?_
  refine zst_ (gj_bipush (pc := 67) dX6_action_67 ⟨rfl, by decide⟩) ?_
  refine gb_if (gj_icmp_ne 78 (pc := 69) dX6_action_69 (by decide)) ?_ ?_
  · refine zst_ (gj_iload_n 2 (pc := 78) dX6_action_78 rfl) ?_
    refine zst_ (gj_bipush (pc := 79) dX6_action_79 ⟨rfl, by decide⟩) ?_
    refine gb_if (gj_icmp_ne 90 (pc := 81) dX6_action_81 (by decide)) ?_ ?_
    · refine zst_ (gj_enumL (pc := 90) (i := 3) (by decide) rfl rfl dX6_action_90 q1379 rfl) ?_
      exact fun h => w_X6_action_93 x0 x1 x2 (-5) x1 σ3 h hk
    · refine zst_ (gj_enumL (pc := 84) (i := 2) (by decide) rfl rfl dX6_action_84 q1377 rfl) ?_
      refine zst_ (gj_goto 93 (pc := 87) dX6_action_87 (by decide)) ?_
      exact fun h => w_X6_action_93 x0 x1 x2 (-4) x1 σ3 h hk
  · refine zst_ (gj_enumL (pc := 72) (i := 0) (by decide) rfl rfl dX6_action_72 q1375 rfl) ?_
    refine zst_ (gj_goto 93 (pc := 75) dX6_action_75 (by decide)) ?_
    exact fun h => w_X6_action_93 x0 x1 x2 (-2) x1 σ3 h hk
noncomputable def f_X6_action_47 (x0 x1 x2 : Int) (σ : zM) : Option zO :=
  f_X6_action_52 x0 x1 x2 1 σ
theorem w_X6_action_47 {g : zG} {lv : Nat} {out : zO} (x0 x1 x2 : Int) (σ : zM) {r : zO} (h : f_X6_action_47 x0 x1 x2 σ = some r) (hk : (fun o : zO => o = out) r) : Gj g MX6_action (lv + 49) 47 [(0, zr x0), (1, zr x1), (2, zi x2)] [] σ out := by
  revert h
  unfold f_X6_action_47
  refine zst_ (gj_iconst (pc := 47) dX6_action_47 (by decide)) ?_
  refine zst_ (gj_goto 52 (pc := 48) dX6_action_48 (by decide)) ?_
  exact fun h => w_X6_action_52 x0 x1 x2 1 σ h hk
noncomputable def f_X6_action (x0 x1 : Int) (σ : zM) : Option zO :=
  zgd (zis σ 7 x0) <|
  zci (f_X5_now x0 σ) fun v1 σ2 =>
  (zgf σ2 500 x0).bind fun v3 =>
  (zgf σ2 200 v3).bind fun v4 =>
  (zgf σ2 1107 x1).bind fun v5 =>
  (zga σ2 101 v4 v5).bind fun v6 =>
  if v6 ≠ 1 then
    if v1 = 33 then
      f_X6_action_47 x0 x1 v1 σ2
    else
      if v1 ≠ 63 then
        f_X6_action_52 x0 x1 v1 0 σ2
      else
        f_X6_action_47 x0 x1 v1 σ2
  else
    if v1 ≠ 61 then
      f_X6_action_52 x0 x1 v1 0 σ2
    else
      f_X6_action_52 x0 x1 v1 1 σ2
theorem c_X6_action {g : zG} {lv : Nat} {x0 x1 : Int} {σ : zM} {out : zO} (h : f_X6_action x0 x1 σ = some out) : Cj g (lv + 49) MX6_action [zr x0, zr x1] σ out := by
  refine cj_go (ls := [(0, zr x0), (1, zr x1)]) (by decide) (Nat.le_of_ble_eq_true rfl) rfl (zgen h (fun r hk => ?_))
  unfold f_X6_action
  refine zst_ (gj_aload_n 0 (pc := 0) dX6_action_0 rfl) ?_
  refine gb_gd (fun hb => ?_)
  refine gb_callI (pc := 1) (as := [zr x0]) (rest := []) (zCl.of (zLk_VU (M := MX6_action) (ci := 6) (r := (RX6, TX6, 8)) (x := ⟨"LassoFinder$ModelReader", "now", "()C"⟩) plX5_now.1 ⟨rfl, rfl⟩ rfl rfl (zisE hb).1 (zisE hb).2 dX6_action_1 q1050 q1051 q1054 q1053 q1055) plX5_now (Nat.le_of_ble_eq_true rfl) (fun h => c_X5_now h)) (fun v1 σ2 => ?_)
  refine zst_ (gj_istore_n (pc := 4) (ls' := [(2, zi v1), (0, zr x0), (1, zr x1)]) dX6_action_4 (by decide) rfl) ?_
  refine zst_ (gj_aload_n 1 (pc := 5) dX6_action_5 rfl) ?_
  refine gb_get (pc := 6) fl500 dX6_action_6 q690 (Or.inr q691) (fun v3 => ?_)
  refine gb_getNe (pc := 9) fl200 dX6_action_9 q269 (Or.inl rfl) (fun v4 => ?_)
  refine zst_ (gj_aload_n 2 (pc := 12) dX6_action_12 rfl) ?_
  refine gb_getNe (pc := 13) fl1107 dX6_action_13 q1169 (Or.inl rfl) (fun v5 => ?_)
  refine gb_iald (pc := 16) dX6_action_16 (fun v6 => ?_)
  refine zst_ (gj_iconst (pc := 17) dX6_action_17 (by decide)) ?_
  refine gb_if (gj_icmp_ne 35 (pc := 18) dX6_action_18 (by decide)) ?_ ?_
  · refine zst_ (gj_iload_n 0 (pc := 35) dX6_action_35 rfl) ?_
    refine zst_ (gj_bipush (pc := 36) dX6_action_36 ⟨rfl, by decide⟩) ?_
    refine gb_if (gj_icmp_eq 47 (pc := 38) dX6_action_38 (by decide)) ?_ ?_
    · refine zst_ (gj_sub [1, 2, 0] rfl) ?_
      exact fun h => w_X6_action_47 x0 x1 v1 σ2 h hk
    · refine zst_ (gj_iload_n 0 (pc := 41) dX6_action_41 rfl) ?_
      refine zst_ (gj_bipush (pc := 42) dX6_action_42 ⟨rfl, by decide⟩) ?_
      refine gb_if (gj_icmp_ne 51 (pc := 44) dX6_action_44 (by decide)) ?_ ?_
      · refine zst_ (gj_iconst (pc := 51) dX6_action_51 (by decide)) ?_
        refine zst_ (gj_sub [1, 2, 0] rfl) ?_
        exact fun h => w_X6_action_52 x0 x1 v1 0 σ2 h hk
      · refine zst_ (gj_sub [1, 2, 0] rfl) ?_
        exact fun h => w_X6_action_47 x0 x1 v1 σ2 h hk
  · refine zst_ (gj_iload_n 0 (pc := 21) dX6_action_21 rfl) ?_
    refine zst_ (gj_bipush (pc := 22) dX6_action_22 ⟨rfl, by decide⟩) ?_
    refine gb_if (gj_icmp_ne 31 (pc := 24) dX6_action_24 (by decide)) ?_ ?_
    · refine zst_ (gj_iconst (pc := 31) dX6_action_31 (by decide)) ?_
      refine zst_ (gj_goto 52 (pc := 32) dX6_action_32 (by decide)) ?_
      refine zst_ (gj_sub [1, 2, 0] rfl) ?_
      exact fun h => w_X6_action_52 x0 x1 v1 0 σ2 h hk
    · refine zst_ (gj_iconst (pc := 27) dX6_action_27 (by decide)) ?_
      refine zst_ (gj_goto 52 (pc := 28) dX6_action_28 (by decide)) ?_
      refine zst_ (gj_sub [1, 2, 0] rfl) ?_
      exact fun h => w_X6_action_52 x0 x1 v1 1 σ2 h hk
theorem q282 : (Jvm.Cond.fieldLinkNest "LassoFinder$ModelReader" (259 : Nat) "LassoFinder$Model" "basics" "I" "LassoFinder") ∈ lw_tbl := lw_at lw_m1 182 rfl
theorem q1175 : (Jvm.Cond.fieldLinkNest "LassoFinder$ModelReader" (197 : Nat) "LassoFinder$Statement" "number" "I" "LassoFinder") ∈ lw_tbl := lw_at lw_m5 115 rfl
theorem q1282 : (Jvm.Cond.fieldLink "LassoFinder$ModelReader" (187 : Nat) "LassoFinder$Kind" "ATOMIC" "LLassoFinder$Kind;") ∈ lw_all := lw_g (lw_at lw_m5 222 rfl) rfl
theorem q1284 : (Jvm.Cond.methodLink "LassoFinder$ModelReader" (255 : Nat) ({ cls := "LassoFinder$ModelReader", name := "tally", desc := "(LLassoFinder$Statement;)V" } : Jvm.MethodName)) ∈ lw_all := lw_g (lw_at lw_m5 224 rfl) rfl
theorem q1286 : (Jvm.Cond.instanceMethod ({ cls := "LassoFinder$ModelReader", name := "tally", desc := "(LLassoFinder$Statement;)V" } : Jvm.MethodName)) ∈ lw_all := lw_g (lw_at lw_m5 226 rfl) rfl
theorem q1305 : (Jvm.Cond.code ({ cls := "LassoFinder$ModelReader", name := "basic", desc := "(LLassoFinder$Statement;Z)LLassoFinder$Statement;" } : Jvm.MethodName) prog_10_method_15_code (6 : Nat) (Option.some (Jvm.ClassFile.FieldType.object "LassoFinder$Statement"))) ∈ lw_all := lw_g (lw_at lw_m6 5 rfl) rfl
theorem q1306 : (Jvm.Cond.fieldLink "LassoFinder$ModelReader" (261 : Nat) "LassoFinder$Kind" "WAIT" "LLassoFinder$Kind;") ∈ lw_all := lw_g (lw_at lw_m6 6 rfl) rfl
theorem q1308 : (Jvm.Cond.fieldLink "LassoFinder$ModelReader" (264 : Nat) "LassoFinder$Kind" "NOTHING" "LLassoFinder$Kind;") ∈ lw_all := lw_g (lw_at lw_m6 8 rfl) rfl
theorem q1310 : (Jvm.Cond.fieldLink "LassoFinder$ModelReader" (267 : Nat) "LassoFinder$Kind" "ELSE" "LLassoFinder$Kind;") ∈ lw_all := lw_g (lw_at lw_m6 10 rfl) rfl
theorem q1371 : (Jvm.Cond.methodLink "LassoFinder$ModelReader" (278 : Nat) ({ cls := "LassoFinder$ModelReader", name := "action", desc := "(LLassoFinder$Statement;)V" } : Jvm.MethodName)) ∈ lw_all := lw_g (lw_at lw_m6 71 rfl) rfl
theorem q1373 : (Jvm.Cond.instanceMethod ({ cls := "LassoFinder$ModelReader", name := "action", desc := "(LLassoFinder$Statement;)V" } : Jvm.MethodName)) ∈ lw_all := lw_g (lw_at lw_m6 73 rfl) rfl
abbrev cX6_basic : ByteArray := prog_10_method_15_code
def yX6_basic : MethodName := ⟨RX6, "basic", "(LLassoFinder$Statement;Z)LLassoFinder$Statement;"⟩
theorem dX6_basic_0 : decode cX6_basic 0 = .ok (.aload_n 0, 1) := by decide +kernel
theorem dX6_basic_1 : decode cX6_basic 1 = .ok (.invokevirtual 57, 3) := by decide +kernel
theorem dX6_basic_4 : decode cX6_basic 4 = .ok (.istore_n 3, 1) := by decide +kernel
theorem dX6_basic_5 : decode cX6_basic 5 = .ok (.iload_n 3, 1) := by decide +kernel
theorem dX6_basic_6 : decode cX6_basic 6 = .ok (.bipush 97, 2) := by decide +kernel
theorem dX6_basic_8 : decode cX6_basic 8 = .ok (.if_icmp .lt 13, 3) := by decide +kernel
theorem dX6_basic_11 : decode cX6_basic 11 = .ok (.iload_n 3, 1) := by decide +kernel
theorem dX6_basic_12 : decode cX6_basic 12 = .ok (.bipush 104, 2) := by decide +kernel
theorem dX6_basic_14 : decode cX6_basic 14 = .ok (.if_icmp .gt 7, 3) := by decide +kernel
theorem dX6_basic_17 : decode cX6_basic 17 = .ok (.iconst 1, 1) := by decide +kernel
theorem dX6_basic_18 : decode cX6_basic 18 = .ok (.goto 4, 3) := by decide +kernel
theorem dX6_basic_21 : decode cX6_basic 21 = .ok (.iconst 0, 1) := by decide +kernel
theorem dX6_basic_22 : decode cX6_basic 22 = .ok (.istore 4, 2) := by decide +kernel
theorem dX6_basic_24 : decode cX6_basic 24 = .ok (.iload 4, 2) := by decide +kernel
theorem dX6_basic_26 : decode cX6_basic 26 = .ok (.ifCond .ne 21, 3) := by decide +kernel
theorem dX6_basic_29 : decode cX6_basic 29 = .ok (.iload_n 3, 1) := by decide +kernel
theorem dX6_basic_30 : decode cX6_basic 30 = .ok (.bipush 40, 2) := by decide +kernel
theorem dX6_basic_32 : decode cX6_basic 32 = .ok (.if_icmp .eq 15, 3) := by decide +kernel
theorem dX6_basic_35 : decode cX6_basic 35 = .ok (.iload_n 3, 1) := by decide +kernel
theorem dX6_basic_36 : decode cX6_basic 36 = .ok (.bipush 45, 2) := by decide +kernel
theorem dX6_basic_38 : decode cX6_basic 38 = .ok (.if_icmp .eq 9, 3) := by decide +kernel
theorem dX6_basic_41 : decode cX6_basic 41 = .ok (.iload_n 3, 1) := by decide +kernel
theorem dX6_basic_42 : decode cX6_basic 42 = .ok (.bipush 126, 2) := by decide +kernel
theorem dX6_basic_44 : decode cX6_basic 44 = .ok (.if_icmp .ne 7, 3) := by decide +kernel
theorem dX6_basic_47 : decode cX6_basic 47 = .ok (.iconst 1, 1) := by decide +kernel
theorem dX6_basic_48 : decode cX6_basic 48 = .ok (.goto 4, 3) := by decide +kernel
theorem dX6_basic_51 : decode cX6_basic 51 = .ok (.iconst 0, 1) := by decide +kernel
theorem dX6_basic_52 : decode cX6_basic 52 = .ok (.invokestatic 90, 3) := by decide +kernel
theorem dX6_basic_55 : decode cX6_basic 55 = .ok (.aload_n 0, 1) := by decide +kernel
theorem dX6_basic_56 : decode cX6_basic 56 = .ok (.getfield 48, 3) := by decide +kernel
theorem dX6_basic_59 : decode cX6_basic 59 = .ok (.getfield 259, 3) := by decide +kernel
theorem dX6_basic_62 : decode cX6_basic 62 = .ok (.bipush 48, 2) := by decide +kernel
theorem dX6_basic_64 : decode cX6_basic 64 = .ok (.if_icmp .ge 27, 3) := by decide +kernel
theorem dX6_basic_67 : decode cX6_basic 67 = .ok (.iload 4, 2) := by decide +kernel
theorem dX6_basic_69 : decode cX6_basic 69 = .ok (.ifCond .eq 18, 3) := by decide +kernel
theorem dX6_basic_72 : decode cX6_basic 72 = .ok (.aload_n 0, 1) := by decide +kernel
theorem dX6_basic_73 : decode cX6_basic 73 = .ok (.getfield 48, 3) := by decide +kernel
theorem dX6_basic_76 : decode cX6_basic 76 = .ok (.getfield 80, 3) := by decide +kernel
theorem dX6_basic_79 : decode cX6_basic 79 = .ok (.iload_n 3, 1) := by decide +kernel
theorem dX6_basic_80 : decode cX6_basic 80 = .ok (.bipush 97, 2) := by decide +kernel
theorem dX6_basic_82 : decode cX6_basic 82 = .ok (.isub, 1) := by decide +kernel
theorem dX6_basic_83 : decode cX6_basic 83 = .ok (.iaload, 1) := by decide +kernel
theorem dX6_basic_84 : decode cX6_basic 84 = .ok (.ifCond .eq 7, 3) := by decide +kernel
theorem dX6_basic_87 : decode cX6_basic 87 = .ok (.iconst 1, 1) := by decide +kernel
theorem dX6_basic_88 : decode cX6_basic 88 = .ok (.goto 4, 3) := by decide +kernel
theorem dX6_basic_91 : decode cX6_basic 91 = .ok (.iconst 0, 1) := by decide +kernel
theorem dX6_basic_92 : decode cX6_basic 92 = .ok (.invokestatic 90, 3) := by decide +kernel
theorem dX6_basic_95 : decode cX6_basic 95 = .ok (.iload_n 3, 1) := by decide +kernel
theorem dX6_basic_96 : decode cX6_basic 96 = .ok (.bipush 126, 2) := by decide +kernel
theorem dX6_basic_98 : decode cX6_basic 98 = .ok (.if_icmp .ne 21, 3) := by decide +kernel
theorem dX6_basic_101 : decode cX6_basic 101 = .ok (.iload_n 2, 1) := by decide +kernel
theorem dX6_basic_102 : decode cX6_basic 102 = .ok (.ifCond .eq 21, 3) := by decide +kernel
theorem dX6_basic_105 : decode cX6_basic 105 = .ok (.aload_n 1, 1) := by decide +kernel
theorem dX6_basic_106 : decode cX6_basic 106 = .ok (.ifnull 17, 3) := by decide +kernel
theorem dX6_basic_109 : decode cX6_basic 109 = .ok (.aload_n 1, 1) := by decide +kernel
theorem dX6_basic_110 : decode cX6_basic 110 = .ok (.getfield 134, 3) := by decide +kernel
theorem dX6_basic_113 : decode cX6_basic 113 = .ok (.getstatic 187, 3) := by decide +kernel
theorem dX6_basic_116 : decode cX6_basic 116 = .ok (.if_acmp .eq 7, 3) := by decide +kernel
theorem dX6_basic_119 : decode cX6_basic 119 = .ok (.iconst 1, 1) := by decide +kernel
theorem dX6_basic_120 : decode cX6_basic 120 = .ok (.goto 4, 3) := by decide +kernel
theorem dX6_basic_123 : decode cX6_basic 123 = .ok (.iconst 0, 1) := by decide +kernel
theorem dX6_basic_124 : decode cX6_basic 124 = .ok (.invokestatic 90, 3) := by decide +kernel
theorem dX6_basic_127 : decode cX6_basic 127 = .ok (.aload_n 0, 1) := by decide +kernel
theorem dX6_basic_128 : decode cX6_basic 128 = .ok (.iload_n 3, 1) := by decide +kernel
theorem dX6_basic_129 : decode cX6_basic 129 = .ok (.bipush 40, 2) := by decide +kernel
theorem dX6_basic_131 : decode cX6_basic 131 = .ok (.if_icmp .ne 9, 3) := by decide +kernel
theorem dX6_basic_134 : decode cX6_basic 134 = .ok (.getstatic 261, 3) := by decide +kernel
theorem dX6_basic_137 : decode cX6_basic 137 = .ok (.goto 18, 3) := by decide +kernel
theorem dX6_basic_140 : decode cX6_basic 140 = .ok (.iload_n 3, 1) := by decide +kernel
theorem dX6_basic_141 : decode cX6_basic 141 = .ok (.bipush 45, 2) := by decide +kernel
theorem dX6_basic_143 : decode cX6_basic 143 = .ok (.if_icmp .ne 9, 3) := by decide +kernel
theorem dX6_basic_146 : decode cX6_basic 146 = .ok (.getstatic 264, 3) := by decide +kernel
theorem dX6_basic_149 : decode cX6_basic 149 = .ok (.goto 6, 3) := by decide +kernel
theorem dX6_basic_152 : decode cX6_basic 152 = .ok (.getstatic 267, 3) := by decide +kernel
theorem dX6_basic_155 : decode cX6_basic 155 = .ok (.aload_n 1, 1) := by decide +kernel
theorem dX6_basic_156 : decode cX6_basic 156 = .ok (.invokevirtual 248, 3) := by decide +kernel
theorem dX6_basic_159 : decode cX6_basic 159 = .ok (.astore 5, 2) := by decide +kernel
theorem dX6_basic_161 : decode cX6_basic 161 = .ok (.aload_n 0, 1) := by decide +kernel
theorem dX6_basic_162 : decode cX6_basic 162 = .ok (.aload 5, 2) := by decide +kernel
theorem dX6_basic_164 : decode cX6_basic 164 = .ok (.invokevirtual 255, 3) := by decide +kernel
theorem dX6_basic_167 : decode cX6_basic 167 = .ok (.aload 5, 2) := by decide +kernel
theorem dX6_basic_169 : decode cX6_basic 169 = .ok (.aload_n 0, 1) := by decide +kernel
theorem dX6_basic_170 : decode cX6_basic 170 = .ok (.getfield 48, 3) := by decide +kernel
theorem dX6_basic_173 : decode cX6_basic 173 = .ok (.getfield 259, 3) := by decide +kernel
theorem dX6_basic_176 : decode cX6_basic 176 = .ok (.putfield 197, 3) := by decide +kernel
theorem dX6_basic_179 : decode cX6_basic 179 = .ok (.aload_n 0, 1) := by decide +kernel
theorem dX6_basic_180 : decode cX6_basic 180 = .ok (.getfield 48, 3) := by decide +kernel
theorem dX6_basic_183 : decode cX6_basic 183 = .ok (.dup, 1) := by decide +kernel
theorem dX6_basic_184 : decode cX6_basic 184 = .ok (.getfield 259, 3) := by decide +kernel
theorem dX6_basic_187 : decode cX6_basic 187 = .ok (.iconst 1, 1) := by decide +kernel
theorem dX6_basic_188 : decode cX6_basic 188 = .ok (.iadd, 1) := by decide +kernel
theorem dX6_basic_189 : decode cX6_basic 189 = .ok (.putfield 259, 3) := by decide +kernel
theorem dX6_basic_192 : decode cX6_basic 192 = .ok (.aload_n 0, 1) := by decide +kernel
theorem dX6_basic_193 : decode cX6_basic 193 = .ok (.dup, 1) := by decide +kernel
theorem dX6_basic_194 : decode cX6_basic 194 = .ok (.getfield 41, 3) := by decide +kernel
theorem dX6_basic_197 : decode cX6_basic 197 = .ok (.iconst 1, 1) := by decide +kernel
theorem dX6_basic_198 : decode cX6_basic 198 = .ok (.iadd, 1) := by decide +kernel
theorem dX6_basic_199 : decode cX6_basic 199 = .ok (.putfield 41, 3) := by decide +kernel
theorem dX6_basic_202 : decode cX6_basic 202 = .ok (.iload_n 3, 1) := by decide +kernel
theorem dX6_basic_203 : decode cX6_basic 203 = .ok (.bipush 40, 2) := by decide +kernel
theorem dX6_basic_205 : decode cX6_basic 205 = .ok (.if_icmp .ne 22, 3) := by decide +kernel
theorem dX6_basic_208 : decode cX6_basic 208 = .ok (.aload 5, 2) := by decide +kernel
theorem dX6_basic_210 : decode cX6_basic 210 = .ok (.aload_n 0, 1) := by decide +kernel
theorem dX6_basic_211 : decode cX6_basic 211 = .ok (.iconst 1, 1) := by decide +kernel
theorem dX6_basic_212 : decode cX6_basic 212 = .ok (.invokevirtual 270, 3) := by decide +kernel
theorem dX6_basic_215 : decode cX6_basic 215 = .ok (.putfield 274, 3) := by decide +kernel
theorem dX6_basic_218 : decode cX6_basic 218 = .ok (.aload_n 0, 1) := by decide +kernel
theorem dX6_basic_219 : decode cX6_basic 219 = .ok (.bipush 41, 2) := by decide +kernel
theorem dX6_basic_221 : decode cX6_basic 221 = .ok (.invokevirtual 102, 3) := by decide +kernel
theorem dX6_basic_224 : decode cX6_basic 224 = .ok (.goto 23, 3) := by decide +kernel
theorem dX6_basic_227 : decode cX6_basic 227 = .ok (.iload 4, 2) := by decide +kernel
theorem dX6_basic_229 : decode cX6_basic 229 = .ok (.ifCond .eq 18, 3) := by decide +kernel
theorem dX6_basic_232 : decode cX6_basic 232 = .ok (.aload 5, 2) := by decide +kernel
theorem dX6_basic_234 : decode cX6_basic 234 = .ok (.iload_n 3, 1) := by decide +kernel
theorem dX6_basic_235 : decode cX6_basic 235 = .ok (.bipush 97, 2) := by decide +kernel
theorem dX6_basic_237 : decode cX6_basic 237 = .ok (.isub, 1) := by decide +kernel
theorem dX6_basic_238 : decode cX6_basic 238 = .ok (.putfield 147, 3) := by decide +kernel
theorem dX6_basic_241 : decode cX6_basic 241 = .ok (.aload_n 0, 1) := by decide +kernel
theorem dX6_basic_242 : decode cX6_basic 242 = .ok (.aload 5, 2) := by decide +kernel
theorem dX6_basic_244 : decode cX6_basic 244 = .ok (.invokevirtual 278, 3) := by decide +kernel
theorem dX6_basic_247 : decode cX6_basic 247 = .ok (.aload 5, 2) := by decide +kernel
theorem dX6_basic_249 : decode cX6_basic 249 = .ok (.areturn, 1) := by decide +kernel
abbrev MX6_basic : zT := (yX6_basic, cX6_basic, 6, (Option.some (Jvm.ClassFile.FieldType.object "LassoFinder$Statement")), [])
theorem plX6_basic : zplain MX6_basic 2 ∧ (zcodeW MX6_basic ∈ lw_all ∧ Cond.initialized MX6_basic.1.cls ∈ lw_all) := ⟨⟨by decide +kernel, by decide +kernel⟩, q1305, q110⟩
noncomputable def f_X6_basic_247 (x5 : Int) (σ : zM) : Option zO :=
  some (0, zr x5, σ)
theorem w_X6_basic_247 {g : zG} {lv : Nat} {out : zO} (x5 : Int) (σ : zM) {r : zO} (h : f_X6_basic_247 x5 σ = some r) (hk : (fun o : zO => o = out) r) : Gj g MX6_basic (lv + 50) 247 [(5, zr x5)] [] σ out := by
  revert h
  unfold f_X6_basic_247
  refine zst_ (gj_aload 0 (pc := 247) dX6_basic_247 rfl) ?_
  intro h
  cases h
  have hk : (0, zr x5, σ) = out := hk
  subst hk
  exact gj_aret (pc := 249) dX6_basic_249 rfl (Or.inl ⟨_, rfl⟩)
noncomputable def f_X6_basic_155 (x0 x1 x3 x4 t0 t1 : Int) (σ : zM) : Option zO :=
  zgd (zis σ 7 t1) <|
  zcr (f_X6_fresh t1 t0 x1 σ) fun v1 σ2 =>
  zgd (zis σ2 7 x0) <|
  zcvT (f_X6_tally x0 v1 σ2) (fun n a σ3 => some (n + 1, zr a, σ3)) fun σ3 =>
  (zgf σ3 500 x0).bind fun v4 =>
  (zgf σ3 205 v4).bind fun v5 =>
  (zpf σ3 1109 v1 v5).bind fun σ6 =>
  (zgf σ6 500 x0).bind fun v7 =>
  (zgf σ6 205 v7).bind fun v8 =>
  (zpf σ6 205 v7 (zadd v8 1)).bind fun σ9 =>
  (zgf σ9 502 x0).bind fun v10 =>
  (zpf σ9 502 x0 (zadd v10 1)).bind fun σ11 =>
  if x3 ≠ 40 then
    if x4 = 0 then
      f_X6_basic_247 v1 σ11
    else
      (zpf σ11 1107 v1 (zsub x3 97)).bind fun σ12 =>
      zgd (zis σ12 7 x0) <|
      zcvT (f_X6_action x0 v1 σ12) (fun n a σ13 => some (n + 1, zr a, σ13)) fun σ13 =>
      f_X6_basic_247 v1 σ13
  else
    zgd (zis σ11 7 x0) <|
    zcrT (f_X5_whole x0 1 σ11) (fun n a σ15 => some (n + 1, zr a, σ15)) fun v14 σ15 =>
    (zpf σ15 1111 v1 v14).bind fun σ16 =>
    zgd (zis σ16 7 x0) <|
    zcvT (f_X5_sign x0 41 σ16) (fun n a σ17 => some (n + 1, zr a, σ17)) fun σ17 =>
    f_X6_basic_247 v1 σ17
theorem w_X6_basic_155 {g : zG} {lv : Nat} {out : zO} (x0 x1 x3 x4 t0 t1 : Int) (σ : zM) {r : zO} (h : f_X6_basic_155 x0 x1 x3 x4 t0 t1 σ = some r) (hk : (fun o : zO => o = out) r) : Gj g MX6_basic (lv + 50) 155 [(0, zr x0), (1, zr x1), (3, zi x3), (4, zi x4)] [zr t0, zr t1] σ out := by
  revert h
  unfold f_X6_basic_155
  refine zst_ (gj_aload_n 1 (pc := 155) dX6_basic_155 rfl) ?_
  refine gb_gd (fun hb => ?_)
  refine gb_callA (pc := 156) (as := [zr t1, zr t0, zr x1]) (rest := []) (zCl.of (zLk_V (M := MX6_basic) (ci := 6) (r := (RX6, TX6, 8)) plX6_fresh.1 rfl rfl (zisE hb).1 (zisE hb).2 dX6_basic_156 q1140 q1142 qs6 q1143) plX6_fresh (Nat.le_of_ble_eq_true rfl) (fun h => c_X6_fresh h)) (fun v1 σ2 => ?_)
  refine zst_ (gj_astore (pc := 159) (ls' := [(5, zr v1), (0, zr x0), (1, zr x1), (3, zi x3), (4, zi x4)]) dX6_basic_159 (by decide) rfl) ?_
  refine zst_ (gj_aload_n 1 (pc := 161) dX6_basic_161 rfl) ?_
  refine zst_ (gj_aload 0 (pc := 162) dX6_basic_162 rfl) ?_
  refine gb_gd (fun hb => ?_)
  refine gb_callVT (pc := 164) (as := [zr x0, zr v1]) (rest := []) (zCl.of (zLk_V (M := MX6_basic) (ci := 6) (r := (RX6, TX6, 8)) plX6_tally.1 rfl rfl (zisE hb).1 (zisE hb).2 dX6_basic_164 q1284 q1286 qs10 q1287) plX6_tally (Nat.le_of_ble_eq_true rfl) (fun h => c_X6_tally h)) (fun n a s0 h => by cases h; exact Or.inl ⟨rfl, hk⟩) (fun σ3 => ?_)
  refine zst_ (gj_aload 0 (pc := 167) dX6_basic_167 rfl) ?_
  refine zst_ (gj_aload_n 1 (pc := 169) dX6_basic_169 rfl) ?_
  refine gb_get (pc := 170) fl500 dX6_basic_170 q690 (Or.inr q691) (fun v4 => ?_)
  refine gb_getNe (pc := 173) fl205 dX6_basic_173 q282 (Or.inl rfl) (fun v5 => ?_)
  refine gb_putNe (pc := 176) fl1109 fr1109 dX6_basic_176 q1175 (Or.inl rfl) (fun σ6 => ?_)
  refine zst_ (gj_aload_n 1 (pc := 179) dX6_basic_179 rfl) ?_
  refine gb_get (pc := 180) fl500 dX6_basic_180 q690 (Or.inr q691) (fun v7 => ?_)
  refine zst_ (gj_dup (pc := 183) dX6_basic_183 rfl) ?_
  refine gb_getNe (pc := 184) fl205 dX6_basic_184 q282 (Or.inl rfl) (fun v8 => ?_)
  refine zst_ (gj_iconst (pc := 187) dX6_basic_187 (by decide)) ?_
  refine zst_ (gj_iadd (pc := 188) dX6_basic_188) ?_
  refine gb_putNe (pc := 189) fl205 fr205 dX6_basic_189 q282 (Or.inl rfl) (fun σ9 => ?_)
  refine zst_ (gj_aload_n 1 (pc := 192) dX6_basic_192 rfl) ?_
  refine zst_ (gj_dup (pc := 193) dX6_basic_193 rfl) ?_
  refine gb_get (pc := 194) fl502 dX6_basic_194 q702 (Or.inr q703) (fun v10 => ?_)
  refine zst_ (gj_iconst (pc := 197) dX6_basic_197 (by decide)) ?_
  refine zst_ (gj_iadd (pc := 198) dX6_basic_198) ?_
  refine gb_put (pc := 199) fl502 fr502 dX6_basic_199 q702 (Or.inr q703) (fun σ11 => ?_)
  refine zst_ (gj_iload_n 3 (pc := 202) dX6_basic_202 rfl) ?_
  refine zst_ (gj_bipush (pc := 203) dX6_basic_203 ⟨rfl, by decide⟩) ?_
  refine gb_if (gj_icmp_ne 227 (pc := 205) dX6_basic_205 (by decide)) ?_ ?_
  · refine zst_ (gj_iload 4 (pc := 227) dX6_basic_227 rfl) ?_
    refine gb_if (gj_if_eq 247 (pc := 229) dX6_basic_229 (by decide)) ?_ ?_
    · refine zst_ (gj_sub [0] rfl) ?_
      exact fun h => w_X6_basic_247 v1 σ11 h hk
    · refine zst_ (gj_aload 0 (pc := 232) dX6_basic_232 rfl) ?_
      refine zst_ (gj_iload_n 3 (pc := 234) dX6_basic_234 rfl) ?_
      refine zst_ (gj_bipush (pc := 235) dX6_basic_235 ⟨rfl, by decide⟩) ?_
      refine zst_ (gj_isub (pc := 237) dX6_basic_237) ?_
      refine gb_putNe (pc := 238) fl1107 fr1107 dX6_basic_238 q1169 (Or.inl rfl) (fun σ12 => ?_)
      refine zst_ (gj_aload_n 1 (pc := 241) dX6_basic_241 rfl) ?_
      refine zst_ (gj_aload 0 (pc := 242) dX6_basic_242 rfl) ?_
      refine gb_gd (fun hb => ?_)
      refine gb_callVT (pc := 244) (as := [zr x0, zr v1]) (rest := []) (zCl.of (zLk_V (M := MX6_basic) (ci := 6) (r := (RX6, TX6, 8)) plX6_action.1 rfl rfl (zisE hb).1 (zisE hb).2 dX6_basic_244 q1371 q1373 qs13 q1374) plX6_action (Nat.le_of_ble_eq_true rfl) (fun h => c_X6_action h)) (fun n a s0 h => by cases h; exact Or.inl ⟨rfl, hk⟩) (fun σ13 => ?_)
      refine zst_ (gj_sub [0] rfl) ?_
      exact fun h => w_X6_basic_247 v1 σ13 h hk
  · refine zst_ (gj_aload 0 (pc := 208) dX6_basic_208 rfl) ?_
    refine zst_ (gj_aload_n 1 (pc := 210) dX6_basic_210 rfl) ?_
    refine zst_ (gj_iconst (pc := 211) dX6_basic_211 (by decide)) ?_
    refine gb_gd (fun hb => ?_)
    refine gb_callAT (pc := 212) (as := [zr x0, zi 1]) (rest := [zr v1]) (zCl.of (zLk_VU (M := MX6_basic) (ci := 6) (r := (RX6, TX6, 8)) (x := ⟨"LassoFinder$ModelReader", "whole", "(I)LLassoFinder$Expression;"⟩) plX5_whole.1 ⟨rfl, rfl⟩ rfl rfl (zisE hb).1 (zisE hb).2 dX6_basic_212 q1312 q1313 q1316 q1315 q1317) plX5_whole (Nat.le_of_ble_eq_true rfl) (fun h => c_X5_whole h)) (fun n a s0 h => by cases h; exact Or.inl ⟨rfl, hk⟩) (fun v14 σ15 => ?_)
    refine gb_putNe (pc := 215) fl1111 fr1111 dX6_basic_215 q1181 (Or.inl rfl) (fun σ16 => ?_)
    refine zst_ (gj_aload_n 1 (pc := 218) dX6_basic_218 rfl) ?_
    refine zst_ (gj_bipush (pc := 219) dX6_basic_219 ⟨rfl, by decide⟩) ?_
    refine gb_gd (fun hb => ?_)
    refine gb_callVT (pc := 221) (as := [zr x0, zi 41]) (rest := []) (zCl.of (zLk_VU (M := MX6_basic) (ci := 6) (r := (RX6, TX6, 8)) (x := ⟨"LassoFinder$ModelReader", "sign", "(C)V"⟩) plX5_sign.1 ⟨rfl, rfl⟩ rfl rfl (zisE hb).1 (zisE hb).2 dX6_basic_221 q1109 q1110 q1113 q1112 q1114) plX5_sign (Nat.le_of_ble_eq_true rfl) (fun h => c_X5_sign h)) (fun n a s0 h => by cases h; exact Or.inl ⟨rfl, hk⟩) (fun σ17 => ?_)
    refine zst_ (gj_goto 247 (pc := 224) dX6_basic_224 (by decide)) ?_
    refine zst_ (gj_sub [0] rfl) ?_
    exact fun h => w_X6_basic_247 v1 σ17 h hk
noncomputable def f_X6_basic_124 (x0 x1 x3 x4 t0 : Int) (σ : zM) : Option zO :=
  zcvT (f_X5_need t0 σ) (fun n a σ1 => some (n + 1, zr a, σ1)) fun σ1 =>
  if x3 ≠ 40 then
    if x3 ≠ 45 then
      f_X6_basic_155 x0 x1 x3 x4 (-7) x0 σ1
    else
      f_X6_basic_155 x0 x1 x3 x4 (-6) x0 σ1
  else
    f_X6_basic_155 x0 x1 x3 x4 (-3) x0 σ1
theorem w_X6_basic_124 {g : zG} {lv : Nat} {out : zO} (x0 x1 x3 x4 t0 : Int) (σ : zM) {r : zO} (h : f_X6_basic_124 x0 x1 x3 x4 t0 σ = some r) (hk : (fun o : zO => o = out) r) : Gj g MX6_basic (lv + 50) 124 [(0, zr x0), (1, zr x1), (3, zi x3), (4, zi x4)] [zi t0] σ out := by
  revert h
  unfold f_X6_basic_124
  refine gb_callVT (pc := 124) (as := [zi t0]) (rest := []) (zCl.of (zLk_SU (M := MX6_basic) (x := ⟨"LassoFinder$ModelReader", "need", "(Z)V"⟩) plX5_need.1 ⟨rfl, rfl⟩ rfl dX6_basic_124 q1083 q1084 q1085 q109 q1086) plX5_need (Nat.le_of_ble_eq_true rfl) (fun h => c_X5_need h)) (fun n a s0 h => by cases h; exact Or.inl ⟨rfl, hk⟩) (fun σ1 => ?_)
  refine zst_ (gj_aload_n 0 (pc := 127) dX6_basic_127 rfl) ?_
  refine zst_ (gj_iload_n 2 (pc := 128) dX6_basic_128 rfl) ?_
  refine zst_ (gj_bipush (pc := 129) dX6_basic_129 ⟨rfl, by decide⟩) ?_
  refine gb_if (gj_icmp_ne 140 (pc := 131) dX6_basic_131 (by decide)) ?_ ?_
  · refine zst_ (gj_iload_n 2 (pc := 140) dX6_basic_140 rfl) ?_
    refine zst_ (gj_bipush (pc := 141) dX6_basic_141 ⟨rfl, by decide⟩) ?_
    refine gb_if (gj_icmp_ne 152 (pc := 143) dX6_basic_143 (by decide)) ?_ ?_
    · refine zst_ (gj_enumL (pc := 152) (i := 5) (by decide) rfl rfl dX6_basic_152 q1310 rfl) ?_
      exact fun h => w_X6_basic_155 x0 x1 x3 x4 (-7) x0 σ1 h hk
    · refine zst_ (gj_enumL (pc := 146) (i := 4) (by decide) rfl rfl dX6_basic_146 q1308 rfl) ?_
      refine zst_ (gj_goto 155 (pc := 149) dX6_basic_149 (by decide)) ?_
      exact fun h => w_X6_basic_155 x0 x1 x3 x4 (-6) x0 σ1 h hk
  · refine zst_ (gj_enumL (pc := 134) (i := 1) (by decide) rfl rfl dX6_basic_134 q1306 rfl) ?_
    refine zst_ (gj_goto 155 (pc := 137) dX6_basic_137 (by decide)) ?_
    exact fun h => w_X6_basic_155 x0 x1 x3 x4 (-3) x0 σ1 h hk
noncomputable def f_X6_basic_119 (x0 x1 x3 x4 : Int) (σ : zM) : Option zO :=
  f_X6_basic_124 x0 x1 x3 x4 1 σ
theorem w_X6_basic_119 {g : zG} {lv : Nat} {out : zO} (x0 x1 x3 x4 : Int) (σ : zM) {r : zO} (h : f_X6_basic_119 x0 x1 x3 x4 σ = some r) (hk : (fun o : zO => o = out) r) : Gj g MX6_basic (lv + 50) 119 [(0, zr x0), (1, zr x1), (3, zi x3), (4, zi x4)] [] σ out := by
  revert h
  unfold f_X6_basic_119
  refine zst_ (gj_iconst (pc := 119) dX6_basic_119 (by decide)) ?_
  refine zst_ (gj_goto 124 (pc := 120) dX6_basic_120 (by decide)) ?_
  exact fun h => w_X6_basic_124 x0 x1 x3 x4 1 σ h hk
noncomputable def f_X6_basic_123 (x0 x1 x3 x4 : Int) (σ : zM) : Option zO :=
  f_X6_basic_124 x0 x1 x3 x4 0 σ
theorem w_X6_basic_123 {g : zG} {lv : Nat} {out : zO} (x0 x1 x3 x4 : Int) (σ : zM) {r : zO} (h : f_X6_basic_123 x0 x1 x3 x4 σ = some r) (hk : (fun o : zO => o = out) r) : Gj g MX6_basic (lv + 50) 123 [(0, zr x0), (1, zr x1), (3, zi x3), (4, zi x4)] [] σ out := by
  revert h
  unfold f_X6_basic_123
  refine zst_ (gj_iconst (pc := 123) dX6_basic_123 (by decide)) ?_
  exact fun h => w_X6_basic_124 x0 x1 x3 x4 0 σ h hk
noncomputable def f_X6_basic_92 (x0 x1 x2 x3 x4 t0 : Int) (σ : zM) : Option zO :=
  zcvT (f_X5_need t0 σ) (fun n a σ1 => some (n + 1, zr a, σ1)) fun σ1 =>
  if x3 ≠ 126 then
    f_X6_basic_119 x0 x1 x3 x4 σ1
  else
    if x2 = 0 then
      f_X6_basic_123 x0 x1 x3 x4 σ1
    else
      if x1 = (-1) then
        f_X6_basic_123 x0 x1 x3 x4 σ1
      else
        (zgf σ1 1100 x1).bind fun v2 =>
        if v2 = (-10) then
          f_X6_basic_123 x0 x1 x3 x4 σ1
        else
          f_X6_basic_119 x0 x1 x3 x4 σ1
theorem w_X6_basic_92 {g : zG} {lv : Nat} {out : zO} (x0 x1 x2 x3 x4 t0 : Int) (σ : zM) {r : zO} (h : f_X6_basic_92 x0 x1 x2 x3 x4 t0 σ = some r) (hk : (fun o : zO => o = out) r) : Gj g MX6_basic (lv + 50) 92 [(0, zr x0), (1, zr x1), (2, zi x2), (3, zi x3), (4, zi x4)] [zi t0] σ out := by
  revert h
  unfold f_X6_basic_92
  refine gb_callVT (pc := 92) (as := [zi t0]) (rest := []) (zCl.of (zLk_SU (M := MX6_basic) (x := ⟨"LassoFinder$ModelReader", "need", "(Z)V"⟩) plX5_need.1 ⟨rfl, rfl⟩ rfl dX6_basic_92 q1083 q1084 q1085 q109 q1086) plX5_need (Nat.le_of_ble_eq_true rfl) (fun h => c_X5_need h)) (fun n a s0 h => by cases h; exact Or.inl ⟨rfl, hk⟩) (fun σ1 => ?_)
  refine zst_ (gj_iload_n 3 (pc := 95) dX6_basic_95 rfl) ?_
  refine zst_ (gj_bipush (pc := 96) dX6_basic_96 ⟨rfl, by decide⟩) ?_
  refine gb_if (gj_icmp_ne 119 (pc := 98) dX6_basic_98 (by decide)) ?_ ?_
  · refine zst_ (gj_sub [0, 1, 3, 4] rfl) ?_
    exact fun h => w_X6_basic_119 x0 x1 x3 x4 σ1 h hk
  · refine zst_ (gj_iload_n 2 (pc := 101) dX6_basic_101 rfl) ?_
    refine gb_if (gj_if_eq 123 (pc := 102) dX6_basic_102 (by decide)) ?_ ?_
    · refine zst_ (gj_sub [0, 1, 3, 4] rfl) ?_
      exact fun h => w_X6_basic_123 x0 x1 x3 x4 σ1 h hk
    · refine zst_ (gj_aload_n 1 (pc := 105) dX6_basic_105 rfl) ?_
      refine gb_if (gj_ifnull 123 (pc := 106) dX6_basic_106 (by decide)) ?_ ?_
      · refine zst_ (gj_sub [0, 1, 3, 4] rfl) ?_
        exact fun h => w_X6_basic_123 x0 x1 x3 x4 σ1 h hk
      · refine zst_ (gj_aload_n 1 (pc := 109) dX6_basic_109 rfl) ?_
        refine gb_getNe (pc := 110) fl1100 dX6_basic_110 q1155 (Or.inl rfl) (fun v2 => ?_)
        refine zst_ (gj_enumL (pc := 113) (i := 8) (by decide) rfl rfl dX6_basic_113 q1282 rfl) ?_
        refine gb_if (gj_acmp_eq 123 (pc := 116) dX6_basic_116 (by decide)) ?_ ?_
        · refine zst_ (gj_sub [0, 1, 3, 4] rfl) ?_
          exact fun h => w_X6_basic_123 x0 x1 x3 x4 σ1 h hk
        · refine zst_ (gj_sub [0, 1, 3, 4] rfl) ?_
          exact fun h => w_X6_basic_119 x0 x1 x3 x4 σ1 h hk
noncomputable def f_X6_basic_91 (x0 x1 x2 x3 x4 : Int) (σ : zM) : Option zO :=
  f_X6_basic_92 x0 x1 x2 x3 x4 0 σ
theorem w_X6_basic_91 {g : zG} {lv : Nat} {out : zO} (x0 x1 x2 x3 x4 : Int) (σ : zM) {r : zO} (h : f_X6_basic_91 x0 x1 x2 x3 x4 σ = some r) (hk : (fun o : zO => o = out) r) : Gj g MX6_basic (lv + 50) 91 [(0, zr x0), (1, zr x1), (2, zi x2), (3, zi x3), (4, zi x4)] [] σ out := by
  revert h
  unfold f_X6_basic_91
  refine zst_ (gj_iconst (pc := 91) dX6_basic_91 (by decide)) ?_
  exact fun h => w_X6_basic_92 x0 x1 x2 x3 x4 0 σ h hk
noncomputable def f_X6_basic_87 (x0 x1 x2 x3 x4 : Int) (σ : zM) : Option zO :=
  f_X6_basic_92 x0 x1 x2 x3 x4 1 σ
theorem w_X6_basic_87 {g : zG} {lv : Nat} {out : zO} (x0 x1 x2 x3 x4 : Int) (σ : zM) {r : zO} (h : f_X6_basic_87 x0 x1 x2 x3 x4 σ = some r) (hk : (fun o : zO => o = out) r) : Gj g MX6_basic (lv + 50) 87 [(0, zr x0), (1, zr x1), (2, zi x2), (3, zi x3), (4, zi x4)] [] σ out := by
  revert h
  unfold f_X6_basic_87
  refine zst_ (gj_iconst (pc := 87) dX6_basic_87 (by decide)) ?_
  refine zst_ (gj_goto 92 (pc := 88) dX6_basic_88 (by decide)) ?_
  exact fun h => w_X6_basic_92 x0 x1 x2 x3 x4 1 σ h hk
noncomputable def f_X6_basic_52 (x0 x1 x2 x3 x4 t0 : Int) (σ : zM) : Option zO :=
  zcvT (f_X5_need t0 σ) (fun n a σ1 => some (n + 1, zr a, σ1)) fun σ1 =>
  (zgf σ1 500 x0).bind fun v2 =>
  (zgf σ1 205 v2).bind fun v3 =>
  if 48 ≤ v3 then
    f_X6_basic_91 x0 x1 x2 x3 x4 σ1
  else
    if x4 = 0 then
      f_X6_basic_87 x0 x1 x2 x3 x4 σ1
    else
      (zgf σ1 500 x0).bind fun v4 =>
      (zgf σ1 200 v4).bind fun v5 =>
      (zga σ1 101 v5 (zsub x3 97)).bind fun v6 =>
      if v6 = 0 then
        f_X6_basic_91 x0 x1 x2 x3 x4 σ1
      else
        f_X6_basic_87 x0 x1 x2 x3 x4 σ1
theorem w_X6_basic_52 {g : zG} {lv : Nat} {out : zO} (x0 x1 x2 x3 x4 t0 : Int) (σ : zM) {r : zO} (h : f_X6_basic_52 x0 x1 x2 x3 x4 t0 σ = some r) (hk : (fun o : zO => o = out) r) : Gj g MX6_basic (lv + 50) 52 [(0, zr x0), (1, zr x1), (2, zi x2), (3, zi x3), (4, zi x4)] [zi t0] σ out := by
  revert h
  unfold f_X6_basic_52
  refine gb_callVT (pc := 52) (as := [zi t0]) (rest := []) (zCl.of (zLk_SU (M := MX6_basic) (x := ⟨"LassoFinder$ModelReader", "need", "(Z)V"⟩) plX5_need.1 ⟨rfl, rfl⟩ rfl dX6_basic_52 q1083 q1084 q1085 q109 q1086) plX5_need (Nat.le_of_ble_eq_true rfl) (fun h => c_X5_need h)) (fun n a s0 h => by cases h; exact Or.inl ⟨rfl, hk⟩) (fun σ1 => ?_)
  refine zst_ (gj_aload_n 0 (pc := 55) dX6_basic_55 rfl) ?_
  refine gb_get (pc := 56) fl500 dX6_basic_56 q690 (Or.inr q691) (fun v2 => ?_)
  refine gb_getNe (pc := 59) fl205 dX6_basic_59 q282 (Or.inl rfl) (fun v3 => ?_)
  refine zst_ (gj_bipush (pc := 62) dX6_basic_62 ⟨rfl, by decide⟩) ?_
  refine gb_if (gj_icmp_ge 91 (pc := 64) dX6_basic_64 (by decide)) ?_ ?_
  · exact fun h => w_X6_basic_91 x0 x1 x2 x3 x4 σ1 h hk
  · refine zst_ (gj_iload 4 (pc := 67) dX6_basic_67 rfl) ?_
    refine gb_if (gj_if_eq 87 (pc := 69) dX6_basic_69 (by decide)) ?_ ?_
    · exact fun h => w_X6_basic_87 x0 x1 x2 x3 x4 σ1 h hk
    · refine zst_ (gj_aload_n 0 (pc := 72) dX6_basic_72 rfl) ?_
      refine gb_get (pc := 73) fl500 dX6_basic_73 q690 (Or.inr q691) (fun v4 => ?_)
      refine gb_getNe (pc := 76) fl200 dX6_basic_76 q269 (Or.inl rfl) (fun v5 => ?_)
      refine zst_ (gj_iload_n 3 (pc := 79) dX6_basic_79 rfl) ?_
      refine zst_ (gj_bipush (pc := 80) dX6_basic_80 ⟨rfl, by decide⟩) ?_
      refine zst_ (gj_isub (pc := 82) dX6_basic_82) ?_
      refine gb_iald (pc := 83) dX6_basic_83 (fun v6 => ?_)
      refine gb_if (gj_if_eq 91 (pc := 84) dX6_basic_84 (by decide)) ?_ ?_
      · exact fun h => w_X6_basic_91 x0 x1 x2 x3 x4 σ1 h hk
      · exact fun h => w_X6_basic_87 x0 x1 x2 x3 x4 σ1 h hk
noncomputable def f_X6_basic_47 (x0 x1 x2 x3 x4 : Int) (σ : zM) : Option zO :=
  f_X6_basic_52 x0 x1 x2 x3 x4 1 σ
theorem w_X6_basic_47 {g : zG} {lv : Nat} {out : zO} (x0 x1 x2 x3 x4 : Int) (σ : zM) {r : zO} (h : f_X6_basic_47 x0 x1 x2 x3 x4 σ = some r) (hk : (fun o : zO => o = out) r) : Gj g MX6_basic (lv + 50) 47 [(0, zr x0), (1, zr x1), (2, zi x2), (3, zi x3), (4, zi x4)] [] σ out := by
  revert h
  unfold f_X6_basic_47
  refine zst_ (gj_iconst (pc := 47) dX6_basic_47 (by decide)) ?_
  refine zst_ (gj_goto 52 (pc := 48) dX6_basic_48 (by decide)) ?_
  exact fun h => w_X6_basic_52 x0 x1 x2 x3 x4 1 σ h hk
noncomputable def f_X6_basic_22 (x0 x1 x2 x3 t0 : Int) (σ : zM) : Option zO :=
  if t0 ≠ 0 then
    f_X6_basic_47 x0 x1 x2 x3 t0 σ
  else
    if x3 = 40 then
      f_X6_basic_47 x0 x1 x2 x3 t0 σ
    else
      if x3 = 45 then
        f_X6_basic_47 x0 x1 x2 x3 t0 σ
      else
        if x3 ≠ 126 then
          f_X6_basic_52 x0 x1 x2 x3 t0 0 σ
        else
          f_X6_basic_47 x0 x1 x2 x3 t0 σ
theorem w_X6_basic_22 {g : zG} {lv : Nat} {out : zO} (x0 x1 x2 x3 t0 : Int) (σ : zM) {r : zO} (h : f_X6_basic_22 x0 x1 x2 x3 t0 σ = some r) (hk : (fun o : zO => o = out) r) : Gj g MX6_basic (lv + 50) 22 [(0, zr x0), (1, zr x1), (2, zi x2), (3, zi x3)] [zi t0] σ out := by
  revert h
  unfold f_X6_basic_22
  refine zst_ (gj_istore (pc := 22) (ls' := [(4, zi t0), (0, zr x0), (1, zr x1), (2, zi x2), (3, zi x3)]) dX6_basic_22 (by decide) rfl) ?_
  refine zst_ (gj_iload 0 (pc := 24) dX6_basic_24 rfl) ?_
  refine gb_if (gj_if_ne 47 (pc := 26) dX6_basic_26 (by decide)) ?_ ?_
  · refine zst_ (gj_sub [1, 2, 3, 4, 0] rfl) ?_
    exact fun h => w_X6_basic_47 x0 x1 x2 x3 t0 σ h hk
  · refine zst_ (gj_iload_n 4 (pc := 29) dX6_basic_29 rfl) ?_
    refine zst_ (gj_bipush (pc := 30) dX6_basic_30 ⟨rfl, by decide⟩) ?_
    refine gb_if (gj_icmp_eq 47 (pc := 32) dX6_basic_32 (by decide)) ?_ ?_
    · refine zst_ (gj_sub [1, 2, 3, 4, 0] rfl) ?_
      exact fun h => w_X6_basic_47 x0 x1 x2 x3 t0 σ h hk
    · refine zst_ (gj_iload_n 4 (pc := 35) dX6_basic_35 rfl) ?_
      refine zst_ (gj_bipush (pc := 36) dX6_basic_36 ⟨rfl, by decide⟩) ?_
      refine gb_if (gj_icmp_eq 47 (pc := 38) dX6_basic_38 (by decide)) ?_ ?_
      · refine zst_ (gj_sub [1, 2, 3, 4, 0] rfl) ?_
        exact fun h => w_X6_basic_47 x0 x1 x2 x3 t0 σ h hk
      · refine zst_ (gj_iload_n 4 (pc := 41) dX6_basic_41 rfl) ?_
        refine zst_ (gj_bipush (pc := 42) dX6_basic_42 ⟨rfl, by decide⟩) ?_
        refine gb_if (gj_icmp_ne 51 (pc := 44) dX6_basic_44 (by decide)) ?_ ?_
        · refine zst_ (gj_iconst (pc := 51) dX6_basic_51 (by decide)) ?_
          refine zst_ (gj_sub [1, 2, 3, 4, 0] rfl) ?_
          exact fun h => w_X6_basic_52 x0 x1 x2 x3 t0 0 σ h hk
        · refine zst_ (gj_sub [1, 2, 3, 4, 0] rfl) ?_
          exact fun h => w_X6_basic_47 x0 x1 x2 x3 t0 σ h hk
noncomputable def f_X6_basic_21 (x0 x1 x2 x3 : Int) (σ : zM) : Option zO :=
  f_X6_basic_22 x0 x1 x2 x3 0 σ
theorem w_X6_basic_21 {g : zG} {lv : Nat} {out : zO} (x0 x1 x2 x3 : Int) (σ : zM) {r : zO} (h : f_X6_basic_21 x0 x1 x2 x3 σ = some r) (hk : (fun o : zO => o = out) r) : Gj g MX6_basic (lv + 50) 21 [(0, zr x0), (1, zr x1), (2, zi x2), (3, zi x3)] [] σ out := by
  revert h
  unfold f_X6_basic_21
  refine zst_ (gj_iconst (pc := 21) dX6_basic_21 (by decide)) ?_
  exact fun h => w_X6_basic_22 x0 x1 x2 x3 0 σ h hk
noncomputable def f_X6_basic (x0 x1 x2 : Int) (σ : zM) : Option zO :=
  zgd (zis σ 7 x0) <|
  zci (f_X5_now x0 σ) fun v1 σ2 =>
  if v1 < 97 then
    f_X6_basic_21 x0 x1 x2 v1 σ2
  else
    if 104 < v1 then
      f_X6_basic_21 x0 x1 x2 v1 σ2
    else
      f_X6_basic_22 x0 x1 x2 v1 1 σ2
theorem c_X6_basic {g : zG} {lv : Nat} {x0 x1 x2 : Int} {σ : zM} {out : zO} (h : f_X6_basic x0 x1 x2 σ = some out) : Cj g (lv + 50) MX6_basic [zr x0, zr x1, zi x2] σ out := by
  refine cj_go (ls := [(0, zr x0), (1, zr x1), (2, zi x2)]) (by decide) (Nat.le_of_ble_eq_true rfl) rfl (zgen h (fun r hk => ?_))
  unfold f_X6_basic
  refine zst_ (gj_aload_n 0 (pc := 0) dX6_basic_0 rfl) ?_
  refine gb_gd (fun hb => ?_)
  refine gb_callI (pc := 1) (as := [zr x0]) (rest := []) (zCl.of (zLk_VU (M := MX6_basic) (ci := 6) (r := (RX6, TX6, 8)) (x := ⟨"LassoFinder$ModelReader", "now", "()C"⟩) plX5_now.1 ⟨rfl, rfl⟩ rfl rfl (zisE hb).1 (zisE hb).2 dX6_basic_1 q1050 q1051 q1054 q1053 q1055) plX5_now (Nat.le_of_ble_eq_true rfl) (fun h => c_X5_now h)) (fun v1 σ2 => ?_)
  refine zst_ (gj_istore_n (pc := 4) (ls' := [(3, zi v1), (0, zr x0), (1, zr x1), (2, zi x2)]) dX6_basic_4 (by decide) rfl) ?_
  refine zst_ (gj_iload_n 0 (pc := 5) dX6_basic_5 rfl) ?_
  refine zst_ (gj_bipush (pc := 6) dX6_basic_6 ⟨rfl, by decide⟩) ?_
  refine gb_if (gj_icmp_lt 21 (pc := 8) dX6_basic_8 (by decide)) ?_ ?_
  · refine zst_ (gj_sub [1, 2, 3, 0] rfl) ?_
    exact fun h => w_X6_basic_21 x0 x1 x2 v1 σ2 h hk
  · refine zst_ (gj_iload_n 0 (pc := 11) dX6_basic_11 rfl) ?_
    refine zst_ (gj_bipush (pc := 12) dX6_basic_12 ⟨rfl, by decide⟩) ?_
    refine gb_if (gj_icmp_gt 21 (pc := 14) dX6_basic_14 (by decide)) ?_ ?_
    · refine zst_ (gj_sub [1, 2, 3, 0] rfl) ?_
      exact fun h => w_X6_basic_21 x0 x1 x2 v1 σ2 h hk
    · refine zst_ (gj_iconst (pc := 17) dX6_basic_17 (by decide)) ?_
      refine zst_ (gj_goto 22 (pc := 18) dX6_basic_18 (by decide)) ?_
      refine zst_ (gj_sub [1, 2, 3, 0] rfl) ?_
      exact fun h => w_X6_basic_22 x0 x1 x2 v1 1 σ2 h hk
theorem q245 : (Jvm.Cond.fieldLinkNest "LassoFinder$ModelReader" (143 : Nat) "LassoFinder$Routine" "labels" "[LLassoFinder$Statement;" "LassoFinder") ∈ lw_tbl := lw_at lw_m1 145 rfl
theorem q1125 : (Jvm.Cond.methodLink "LassoFinder$ModelReader" (120 : Nat) ({ cls := "LassoFinder$ModelReader", name := "body", desc := "(LLassoFinder$ModelReader;LLassoFinder$Statement;I)LLassoFinder$Statement;" } : Jvm.MethodName)) ∈ lw_all := lw_g (lw_at lw_m5 65 rfl) rfl
theorem q1126 : (Jvm.Cond.static ({ cls := "LassoFinder$ModelReader", name := "body", desc := "(LLassoFinder$ModelReader;LLassoFinder$Statement;I)LLassoFinder$Statement;" } : Jvm.MethodName)) ∈ lw_all := lw_g (lw_at lw_m5 66 rfl) rfl
theorem q1127 : (Jvm.Cond.code ({ cls := "LassoFinder$ModelReader", name := "body", desc := "(LLassoFinder$ModelReader;LLassoFinder$Statement;I)LLassoFinder$Statement;" } : Jvm.MethodName) prog_10_method_9_code (8 : Nat) (Option.some (Jvm.ClassFile.FieldType.object "LassoFinder$Statement"))) ∈ lw_all := lw_g (lw_at lw_m5 67 rfl) rfl
theorem q1128 : (Jvm.Cond.methodLink "LassoFinder$ModelReader" (216 : Nat) ({ cls := "LassoFinder$ModelReader", name := "labels", desc := "()I" } : Jvm.MethodName)) ∈ lw_all := lw_g (lw_at lw_m5 68 rfl) rfl
theorem q1130 : (Jvm.Cond.instanceMethod ({ cls := "LassoFinder$ModelReader", name := "labels", desc := "()I" } : Jvm.MethodName)) ∈ lw_all := lw_g (lw_at lw_m5 70 rfl) rfl
theorem q1132 : (Jvm.Cond.methodLink "LassoFinder$ModelReader" (218 : Nat) ({ cls := "LassoFinder$ModelReader", name := "statement", desc := "(LLassoFinder$ModelReader;LLassoFinder$Statement;ZI)LLassoFinder$Statement;" } : Jvm.MethodName)) ∈ lw_all := lw_g (lw_at lw_m5 72 rfl) rfl
theorem q1133 : (Jvm.Cond.static ({ cls := "LassoFinder$ModelReader", name := "statement", desc := "(LLassoFinder$ModelReader;LLassoFinder$Statement;ZI)LLassoFinder$Statement;" } : Jvm.MethodName)) ∈ lw_all := lw_g (lw_at lw_m5 73 rfl) rfl
theorem q1134 : (Jvm.Cond.code ({ cls := "LassoFinder$ModelReader", name := "statement", desc := "(LLassoFinder$ModelReader;LLassoFinder$Statement;ZI)LLassoFinder$Statement;" } : Jvm.MethodName) prog_10_method_11_code (4 : Nat) (Option.some (Jvm.ClassFile.FieldType.object "LassoFinder$Statement"))) ∈ lw_all := lw_g (lw_at lw_m5 74 rfl) rfl
theorem q1135 : (Jvm.Cond.fieldLink "LassoFinder$ModelReader" (228 : Nat) "LassoFinder$Kind" "SELECTION" "LLassoFinder$Kind;") ∈ lw_all := lw_g (lw_at lw_m5 75 rfl) rfl
theorem q1137 : (Jvm.Cond.methodLink "LassoFinder$ModelReader" (231 : Nat) ({ cls := "LassoFinder$ModelReader", name := "bodies", desc := "(LLassoFinder$ModelReader;LLassoFinder$Kind;LLassoFinder$Statement;I)LLassoFinder$Statement;" } : Jvm.MethodName)) ∈ lw_all := lw_g (lw_at lw_m5 77 rfl) rfl
theorem q1138 : (Jvm.Cond.static ({ cls := "LassoFinder$ModelReader", name := "bodies", desc := "(LLassoFinder$ModelReader;LLassoFinder$Kind;LLassoFinder$Statement;I)LLassoFinder$Statement;" } : Jvm.MethodName)) ∈ lw_all := lw_g (lw_at lw_m5 78 rfl) rfl
theorem q1139 : (Jvm.Cond.code ({ cls := "LassoFinder$ModelReader", name := "bodies", desc := "(LLassoFinder$ModelReader;LLassoFinder$Kind;LLassoFinder$Statement;I)LLassoFinder$Statement;" } : Jvm.MethodName) prog_10_method_14_code (6 : Nat) (Option.some (Jvm.ClassFile.FieldType.object "LassoFinder$Statement"))) ∈ lw_all := lw_g (lw_at lw_m5 79 rfl) rfl
theorem q1158 : (Jvm.Cond.fieldLinkNest "LassoFinder$ModelReader" (222 : Nat) "LassoFinder$Statement" "next" "LLassoFinder$Statement;" "LassoFinder") ∈ lw_tbl := lw_at lw_m5 98 rfl
theorem q1161 : (Jvm.Cond.fieldLinkNest "LassoFinder$ModelReader" (210 : Nat) "LassoFinder$Statement" "inner" "LLassoFinder$Statement;" "LassoFinder") ∈ lw_tbl := lw_at lw_m5 101 rfl
theorem q1163 : (Jvm.Cond.fieldLinkNest "LassoFinder$ModelReader" (213 : Nat) "LassoFinder$Statement" "beside" "LLassoFinder$Statement;" "LassoFinder") ∈ lw_tbl := lw_at lw_m5 103 rfl
theorem q1294 : (Jvm.Cond.methodLink "LassoFinder$ModelReader" (238 : Nat) ({ cls := "LassoFinder$ModelReader", name := "leap", desc := "(LLassoFinder$Statement;Z)LLassoFinder$Statement;" } : Jvm.MethodName)) ∈ lw_all := lw_g (lw_at lw_m5 234 rfl) rfl
theorem q1296 : (Jvm.Cond.instanceMethod ({ cls := "LassoFinder$ModelReader", name := "leap", desc := "(LLassoFinder$Statement;Z)LLassoFinder$Statement;" } : Jvm.MethodName)) ∈ lw_all := lw_g (lw_at lw_m5 236 rfl) rfl
theorem q1302 : (Jvm.Cond.methodLink "LassoFinder$ModelReader" (242 : Nat) ({ cls := "LassoFinder$ModelReader", name := "basic", desc := "(LLassoFinder$Statement;Z)LLassoFinder$Statement;" } : Jvm.MethodName)) ∈ lw_all := lw_g (lw_at lw_m6 2 rfl) rfl
theorem q1304 : (Jvm.Cond.instanceMethod ({ cls := "LassoFinder$ModelReader", name := "basic", desc := "(LLassoFinder$Statement;Z)LLassoFinder$Statement;" } : Jvm.MethodName)) ∈ lw_all := lw_g (lw_at lw_m6 4 rfl) rfl
abbrev cX6_bodies : ByteArray := prog_10_method_14_code
def yX6_bodies : MethodName := ⟨RX6, "bodies", "(LLassoFinder$ModelReader;LLassoFinder$Kind;LLassoFinder$Statement;I)LLassoFinder$Statement;"⟩
theorem dX6_bodies_0 : decode cX6_bodies 0 = .ok (.aload_n 0, 1) := by decide +kernel
theorem dX6_bodies_1 : decode cX6_bodies 1 = .ok (.aload_n 1, 1) := by decide +kernel
theorem dX6_bodies_2 : decode cX6_bodies 2 = .ok (.aload_n 2, 1) := by decide +kernel
theorem dX6_bodies_3 : decode cX6_bodies 3 = .ok (.invokevirtual 248, 3) := by decide +kernel
theorem dX6_bodies_6 : decode cX6_bodies 6 = .ok (.astore 4, 2) := by decide +kernel
theorem dX6_bodies_8 : decode cX6_bodies 8 = .ok (.aload_n 1, 1) := by decide +kernel
theorem dX6_bodies_9 : decode cX6_bodies 9 = .ok (.getstatic 187, 3) := by decide +kernel
theorem dX6_bodies_12 : decode cX6_bodies 12 = .ok (.if_acmp .eq 12, 3) := by decide +kernel
theorem dX6_bodies_15 : decode cX6_bodies 15 = .ok (.aload_n 0, 1) := by decide +kernel
theorem dX6_bodies_16 : decode cX6_bodies 16 = .ok (.aload 4, 2) := by decide +kernel
theorem dX6_bodies_18 : decode cX6_bodies 18 = .ok (.invokevirtual 255, 3) := by decide +kernel
theorem dX6_bodies_21 : decode cX6_bodies 21 = .ok (.goto 22, 3) := by decide +kernel
theorem dX6_bodies_24 : decode cX6_bodies 24 = .ok (.aload 4, 2) := by decide +kernel
theorem dX6_bodies_26 : decode cX6_bodies 26 = .ok (.getstatic 187, 3) := by decide +kernel
theorem dX6_bodies_29 : decode cX6_bodies 29 = .ok (.invokevirtual 190, 3) := by decide +kernel
theorem dX6_bodies_32 : decode cX6_bodies 32 = .ok (.ifnonnull 7, 3) := by decide +kernel
theorem dX6_bodies_35 : decode cX6_bodies 35 = .ok (.iconst 1, 1) := by decide +kernel
theorem dX6_bodies_36 : decode cX6_bodies 36 = .ok (.goto 4, 3) := by decide +kernel
theorem dX6_bodies_39 : decode cX6_bodies 39 = .ok (.iconst 0, 1) := by decide +kernel
theorem dX6_bodies_40 : decode cX6_bodies 40 = .ok (.invokestatic 90, 3) := by decide +kernel
theorem dX6_bodies_43 : decode cX6_bodies 43 = .ok (.aload_n 1, 1) := by decide +kernel
theorem dX6_bodies_44 : decode cX6_bodies 44 = .ok (.getstatic 235, 3) := by decide +kernel
theorem dX6_bodies_47 : decode cX6_bodies 47 = .ok (.if_acmp .ne 13, 3) := by decide +kernel
theorem dX6_bodies_50 : decode cX6_bodies 50 = .ok (.aload_n 0, 1) := by decide +kernel
theorem dX6_bodies_51 : decode cX6_bodies 51 = .ok (.dup, 1) := by decide +kernel
theorem dX6_bodies_52 : decode cX6_bodies 52 = .ok (.getfield 41, 3) := by decide +kernel
theorem dX6_bodies_55 : decode cX6_bodies 55 = .ok (.iconst 1, 1) := by decide +kernel
theorem dX6_bodies_56 : decode cX6_bodies 56 = .ok (.iadd, 1) := by decide +kernel
theorem dX6_bodies_57 : decode cX6_bodies 57 = .ok (.putfield 41, 3) := by decide +kernel
theorem dX6_bodies_60 : decode cX6_bodies 60 = .ok (.iload_n 3, 1) := by decide +kernel
theorem dX6_bodies_61 : decode cX6_bodies 61 = .ok (.bipush 6, 2) := by decide +kernel
theorem dX6_bodies_63 : decode cX6_bodies 63 = .ok (.if_icmp .ge 28, 3) := by decide +kernel
theorem dX6_bodies_66 : decode cX6_bodies 66 = .ok (.aload_n 0, 1) := by decide +kernel
theorem dX6_bodies_67 : decode cX6_bodies 67 = .ok (.invokevirtual 57, 3) := by decide +kernel
theorem dX6_bodies_70 : decode cX6_bodies 70 = .ok (.aload_n 1, 1) := by decide +kernel
theorem dX6_bodies_71 : decode cX6_bodies 71 = .ok (.getstatic 187, 3) := by decide +kernel
theorem dX6_bodies_74 : decode cX6_bodies 74 = .ok (.if_acmp .ne 8, 3) := by decide +kernel
theorem dX6_bodies_77 : decode cX6_bodies 77 = .ok (.bipush 60, 2) := by decide +kernel
theorem dX6_bodies_79 : decode cX6_bodies 79 = .ok (.goto 5, 3) := by decide +kernel
theorem dX6_bodies_82 : decode cX6_bodies 82 = .ok (.bipush 91, 2) := by decide +kernel
theorem dX6_bodies_84 : decode cX6_bodies 84 = .ok (.if_icmp .ne 7, 3) := by decide +kernel
theorem dX6_bodies_87 : decode cX6_bodies 87 = .ok (.iconst 1, 1) := by decide +kernel
theorem dX6_bodies_88 : decode cX6_bodies 88 = .ok (.goto 4, 3) := by decide +kernel
theorem dX6_bodies_91 : decode cX6_bodies 91 = .ok (.iconst 0, 1) := by decide +kernel
theorem dX6_bodies_92 : decode cX6_bodies 92 = .ok (.invokestatic 90, 3) := by decide +kernel
theorem dX6_bodies_95 : decode cX6_bodies 95 = .ok (.aload_n 0, 1) := by decide +kernel
theorem dX6_bodies_96 : decode cX6_bodies 96 = .ok (.dup, 1) := by decide +kernel
theorem dX6_bodies_97 : decode cX6_bodies 97 = .ok (.getfield 41, 3) := by decide +kernel
theorem dX6_bodies_100 : decode cX6_bodies 100 = .ok (.iconst 1, 1) := by decide +kernel
theorem dX6_bodies_101 : decode cX6_bodies 101 = .ok (.iadd, 1) := by decide +kernel
theorem dX6_bodies_102 : decode cX6_bodies 102 = .ok (.putfield 41, 3) := by decide +kernel
theorem dX6_bodies_105 : decode cX6_bodies 105 = .ok (.aload 4, 2) := by decide +kernel
theorem dX6_bodies_107 : decode cX6_bodies 107 = .ok (.aload_n 0, 1) := by decide +kernel
theorem dX6_bodies_108 : decode cX6_bodies 108 = .ok (.aload 4, 2) := by decide +kernel
theorem dX6_bodies_110 : decode cX6_bodies 110 = .ok (.iload_n 3, 1) := by decide +kernel
theorem dX6_bodies_111 : decode cX6_bodies 111 = .ok (.iconst 1, 1) := by decide +kernel
theorem dX6_bodies_112 : decode cX6_bodies 112 = .ok (.iadd, 1) := by decide +kernel
theorem dX6_bodies_113 : decode cX6_bodies 113 = .ok (.invokestatic 120, 3) := by decide +kernel
theorem dX6_bodies_116 : decode cX6_bodies 116 = .ok (.putfield 210, 3) := by decide +kernel
theorem dX6_bodies_119 : decode cX6_bodies 119 = .ok (.aload 4, 2) := by decide +kernel
theorem dX6_bodies_121 : decode cX6_bodies 121 = .ok (.getfield 210, 3) := by decide +kernel
theorem dX6_bodies_124 : decode cX6_bodies 124 = .ok (.astore 5, 2) := by decide +kernel
theorem dX6_bodies_126 : decode cX6_bodies 126 = .ok (.aload_n 1, 1) := by decide +kernel
theorem dX6_bodies_127 : decode cX6_bodies 127 = .ok (.getstatic 187, 3) := by decide +kernel
theorem dX6_bodies_130 : decode cX6_bodies 130 = .ok (.if_acmp .eq 36, 3) := by decide +kernel
theorem dX6_bodies_133 : decode cX6_bodies 133 = .ok (.aload_n 0, 1) := by decide +kernel
theorem dX6_bodies_134 : decode cX6_bodies 134 = .ok (.bipush 124, 2) := by decide +kernel
theorem dX6_bodies_136 : decode cX6_bodies 136 = .ok (.invokevirtual 76, 3) := by decide +kernel
theorem dX6_bodies_139 : decode cX6_bodies 139 = .ok (.ifCond .eq 27, 3) := by decide +kernel
theorem dX6_bodies_142 : decode cX6_bodies 142 = .ok (.aload 5, 2) := by decide +kernel
theorem dX6_bodies_144 : decode cX6_bodies 144 = .ok (.aload_n 0, 1) := by decide +kernel
theorem dX6_bodies_145 : decode cX6_bodies 145 = .ok (.aload 4, 2) := by decide +kernel
theorem dX6_bodies_147 : decode cX6_bodies 147 = .ok (.iload_n 3, 1) := by decide +kernel
theorem dX6_bodies_148 : decode cX6_bodies 148 = .ok (.iconst 1, 1) := by decide +kernel
theorem dX6_bodies_149 : decode cX6_bodies 149 = .ok (.iadd, 1) := by decide +kernel
theorem dX6_bodies_150 : decode cX6_bodies 150 = .ok (.invokestatic 120, 3) := by decide +kernel
theorem dX6_bodies_153 : decode cX6_bodies 153 = .ok (.putfield 213, 3) := by decide +kernel
theorem dX6_bodies_156 : decode cX6_bodies 156 = .ok (.aload 5, 2) := by decide +kernel
theorem dX6_bodies_158 : decode cX6_bodies 158 = .ok (.getfield 213, 3) := by decide +kernel
theorem dX6_bodies_161 : decode cX6_bodies 161 = .ok (.astore 5, 2) := by decide +kernel
theorem dX6_bodies_163 : decode cX6_bodies 163 = .ok (.goto (-37), 3) := by decide +kernel
theorem dX6_bodies_166 : decode cX6_bodies 166 = .ok (.aload_n 0, 1) := by decide +kernel
theorem dX6_bodies_167 : decode cX6_bodies 167 = .ok (.aload_n 1, 1) := by decide +kernel
theorem dX6_bodies_168 : decode cX6_bodies 168 = .ok (.getstatic 187, 3) := by decide +kernel
theorem dX6_bodies_171 : decode cX6_bodies 171 = .ok (.if_acmp .ne 8, 3) := by decide +kernel
theorem dX6_bodies_174 : decode cX6_bodies 174 = .ok (.bipush 62, 2) := by decide +kernel
theorem dX6_bodies_176 : decode cX6_bodies 176 = .ok (.goto 5, 3) := by decide +kernel
theorem dX6_bodies_179 : decode cX6_bodies 179 = .ok (.bipush 93, 2) := by decide +kernel
theorem dX6_bodies_181 : decode cX6_bodies 181 = .ok (.invokevirtual 102, 3) := by decide +kernel
theorem dX6_bodies_184 : decode cX6_bodies 184 = .ok (.aload 4, 2) := by decide +kernel
theorem dX6_bodies_186 : decode cX6_bodies 186 = .ok (.areturn, 1) := by decide +kernel
abbrev MX6_bodies : zT := (yX6_bodies, cX6_bodies, 6, (Option.some (Jvm.ClassFile.FieldType.object "LassoFinder$Statement")), [])
theorem plX6_bodies : zplain MX6_bodies 4 ∧ (zcodeW MX6_bodies ∈ lw_all ∧ Cond.initialized MX6_bodies.1.cls ∈ lw_all) := ⟨⟨by decide +kernel, by decide +kernel⟩, q1139, q110⟩
abbrev cX6_body : ByteArray := prog_10_method_9_code
def yX6_body : MethodName := ⟨RX6, "body", "(LLassoFinder$ModelReader;LLassoFinder$Statement;I)LLassoFinder$Statement;"⟩
theorem dX6_body_0 : decode cX6_body 0 = .ok (.aconst_null, 1) := by decide +kernel
theorem dX6_body_1 : decode cX6_body 1 = .ok (.astore_n 3, 1) := by decide +kernel
theorem dX6_body_2 : decode cX6_body 2 = .ok (.aconst_null, 1) := by decide +kernel
theorem dX6_body_3 : decode cX6_body 3 = .ok (.astore 4, 2) := by decide +kernel
theorem dX6_body_5 : decode cX6_body 5 = .ok (.aload_n 0, 1) := by decide +kernel
theorem dX6_body_6 : decode cX6_body 6 = .ok (.invokevirtual 216, 3) := by decide +kernel
theorem dX6_body_9 : decode cX6_body 9 = .ok (.istore 5, 2) := by decide +kernel
theorem dX6_body_11 : decode cX6_body 11 = .ok (.aload_n 0, 1) := by decide +kernel
theorem dX6_body_12 : decode cX6_body 12 = .ok (.aload_n 1, 1) := by decide +kernel
theorem dX6_body_13 : decode cX6_body 13 = .ok (.aload_n 3, 1) := by decide +kernel
theorem dX6_body_14 : decode cX6_body 14 = .ok (.ifnonnull 7, 3) := by decide +kernel
theorem dX6_body_17 : decode cX6_body 17 = .ok (.iconst 1, 1) := by decide +kernel
theorem dX6_body_18 : decode cX6_body 18 = .ok (.goto 4, 3) := by decide +kernel
theorem dX6_body_21 : decode cX6_body 21 = .ok (.iconst 0, 1) := by decide +kernel
theorem dX6_body_22 : decode cX6_body 22 = .ok (.iload_n 2, 1) := by decide +kernel
theorem dX6_body_23 : decode cX6_body 23 = .ok (.invokestatic 218, 3) := by decide +kernel
theorem dX6_body_26 : decode cX6_body 26 = .ok (.astore 6, 2) := by decide +kernel
theorem dX6_body_28 : decode cX6_body 28 = .ok (.iconst 0, 1) := by decide +kernel
theorem dX6_body_29 : decode cX6_body 29 = .ok (.istore 7, 2) := by decide +kernel
theorem dX6_body_31 : decode cX6_body 31 = .ok (.iload 7, 2) := by decide +kernel
theorem dX6_body_33 : decode cX6_body 33 = .ok (.bipush 8, 2) := by decide +kernel
theorem dX6_body_35 : decode cX6_body 35 = .ok (.if_icmp .ge 32, 3) := by decide +kernel
theorem dX6_body_38 : decode cX6_body 38 = .ok (.iload 5, 2) := by decide +kernel
theorem dX6_body_40 : decode cX6_body 40 = .ok (.iload 7, 2) := by decide +kernel
theorem dX6_body_42 : decode cX6_body 42 = .ok (.ishr, 1) := by decide +kernel
theorem dX6_body_43 : decode cX6_body 43 = .ok (.iconst 1, 1) := by decide +kernel
theorem dX6_body_44 : decode cX6_body 44 = .ok (.iand, 1) := by decide +kernel
theorem dX6_body_45 : decode cX6_body 45 = .ok (.iconst 1, 1) := by decide +kernel
theorem dX6_body_46 : decode cX6_body 46 = .ok (.if_icmp .ne 15, 3) := by decide +kernel
theorem dX6_body_49 : decode cX6_body 49 = .ok (.aload_n 0, 1) := by decide +kernel
theorem dX6_body_50 : decode cX6_body 50 = .ok (.getfield 113, 3) := by decide +kernel
theorem dX6_body_53 : decode cX6_body 53 = .ok (.getfield 143, 3) := by decide +kernel
theorem dX6_body_56 : decode cX6_body 56 = .ok (.iload 7, 2) := by decide +kernel
theorem dX6_body_58 : decode cX6_body 58 = .ok (.aload 6, 2) := by decide +kernel
theorem dX6_body_60 : decode cX6_body 60 = .ok (.aastore, 1) := by decide +kernel
theorem dX6_body_61 : decode cX6_body 61 = .ok (.iinc 7 1, 3) := by decide +kernel
theorem dX6_body_64 : decode cX6_body 64 = .ok (.goto (-33), 3) := by decide +kernel
theorem dX6_body_67 : decode cX6_body 67 = .ok (.aload_n 3, 1) := by decide +kernel
theorem dX6_body_68 : decode cX6_body 68 = .ok (.ifnonnull 9, 3) := by decide +kernel
theorem dX6_body_71 : decode cX6_body 71 = .ok (.aload 6, 2) := by decide +kernel
theorem dX6_body_73 : decode cX6_body 73 = .ok (.astore_n 3, 1) := by decide +kernel
theorem dX6_body_74 : decode cX6_body 74 = .ok (.goto 10, 3) := by decide +kernel
theorem dX6_body_77 : decode cX6_body 77 = .ok (.aload 4, 2) := by decide +kernel
theorem dX6_body_79 : decode cX6_body 79 = .ok (.aload 6, 2) := by decide +kernel
theorem dX6_body_81 : decode cX6_body 81 = .ok (.putfield 222, 3) := by decide +kernel
theorem dX6_body_84 : decode cX6_body 84 = .ok (.aload 6, 2) := by decide +kernel
theorem dX6_body_86 : decode cX6_body 86 = .ok (.astore 4, 2) := by decide +kernel
theorem dX6_body_88 : decode cX6_body 88 = .ok (.aload_n 0, 1) := by decide +kernel
theorem dX6_body_89 : decode cX6_body 89 = .ok (.bipush 59, 2) := by decide +kernel
theorem dX6_body_91 : decode cX6_body 91 = .ok (.invokevirtual 76, 3) := by decide +kernel
theorem dX6_body_94 : decode cX6_body 94 = .ok (.ifCond .ne (-89), 3) := by decide +kernel
theorem dX6_body_97 : decode cX6_body 97 = .ok (.aload_n 3, 1) := by decide +kernel
theorem dX6_body_98 : decode cX6_body 98 = .ok (.areturn, 1) := by decide +kernel
abbrev MX6_body : zT := (yX6_body, cX6_body, 8, (Option.some (Jvm.ClassFile.FieldType.object "LassoFinder$Statement")), [])
theorem plX6_body : zplain MX6_body 3 ∧ (zcodeW MX6_body ∈ lw_all ∧ Cond.initialized MX6_body.1.cls ∈ lw_all) := ⟨⟨by decide +kernel, by decide +kernel⟩, q1127, q110⟩
abbrev cX6_statement : ByteArray := prog_10_method_11_code
def yX6_statement : MethodName := ⟨RX6, "statement", "(LLassoFinder$ModelReader;LLassoFinder$Statement;ZI)LLassoFinder$Statement;"⟩
theorem dX6_statement_0 : decode cX6_statement 0 = .ok (.aload_n 0, 1) := by decide +kernel
theorem dX6_statement_1 : decode cX6_statement 1 = .ok (.invokevirtual 57, 3) := by decide +kernel
theorem dX6_statement_4 : decode cX6_statement 4 = .ok (.lookupswitch 89 #[(42, 62), (46, 82), (60, 72), (91, 52), (94, 82)], 52) := by decide +kernel
theorem dX6_statement_56 : decode cX6_statement 56 = .ok (.aload_n 0, 1) := by decide +kernel
theorem dX6_statement_57 : decode cX6_statement 57 = .ok (.getstatic 228, 3) := by decide +kernel
theorem dX6_statement_60 : decode cX6_statement 60 = .ok (.aload_n 1, 1) := by decide +kernel
theorem dX6_statement_61 : decode cX6_statement 61 = .ok (.iload_n 3, 1) := by decide +kernel
theorem dX6_statement_62 : decode cX6_statement 62 = .ok (.invokestatic 231, 3) := by decide +kernel
theorem dX6_statement_65 : decode cX6_statement 65 = .ok (.areturn, 1) := by decide +kernel
theorem dX6_statement_66 : decode cX6_statement 66 = .ok (.aload_n 0, 1) := by decide +kernel
theorem dX6_statement_67 : decode cX6_statement 67 = .ok (.getstatic 235, 3) := by decide +kernel
theorem dX6_statement_70 : decode cX6_statement 70 = .ok (.aload_n 1, 1) := by decide +kernel
theorem dX6_statement_71 : decode cX6_statement 71 = .ok (.iload_n 3, 1) := by decide +kernel
theorem dX6_statement_72 : decode cX6_statement 72 = .ok (.invokestatic 231, 3) := by decide +kernel
theorem dX6_statement_75 : decode cX6_statement 75 = .ok (.areturn, 1) := by decide +kernel
theorem dX6_statement_76 : decode cX6_statement 76 = .ok (.aload_n 0, 1) := by decide +kernel
theorem dX6_statement_77 : decode cX6_statement 77 = .ok (.getstatic 187, 3) := by decide +kernel
theorem dX6_statement_80 : decode cX6_statement 80 = .ok (.aload_n 1, 1) := by decide +kernel
theorem dX6_statement_81 : decode cX6_statement 81 = .ok (.iload_n 3, 1) := by decide +kernel
theorem dX6_statement_82 : decode cX6_statement 82 = .ok (.invokestatic 231, 3) := by decide +kernel
theorem dX6_statement_85 : decode cX6_statement 85 = .ok (.areturn, 1) := by decide +kernel
theorem dX6_statement_86 : decode cX6_statement 86 = .ok (.aload_n 0, 1) := by decide +kernel
theorem dX6_statement_87 : decode cX6_statement 87 = .ok (.aload_n 1, 1) := by decide +kernel
theorem dX6_statement_88 : decode cX6_statement 88 = .ok (.iload_n 2, 1) := by decide +kernel
theorem dX6_statement_89 : decode cX6_statement 89 = .ok (.invokevirtual 238, 3) := by decide +kernel
theorem dX6_statement_92 : decode cX6_statement 92 = .ok (.areturn, 1) := by decide +kernel
theorem dX6_statement_93 : decode cX6_statement 93 = .ok (.aload_n 0, 1) := by decide +kernel
theorem dX6_statement_94 : decode cX6_statement 94 = .ok (.aload_n 1, 1) := by decide +kernel
theorem dX6_statement_95 : decode cX6_statement 95 = .ok (.iload_n 2, 1) := by decide +kernel
theorem dX6_statement_96 : decode cX6_statement 96 = .ok (.invokevirtual 242, 3) := by decide +kernel
theorem dX6_statement_99 : decode cX6_statement 99 = .ok (.areturn, 1) := by decide +kernel
abbrev MX6_statement : zT := (yX6_statement, cX6_statement, 4, (Option.some (Jvm.ClassFile.FieldType.object "LassoFinder$Statement")), [])
theorem plX6_statement : zplain MX6_statement 4 ∧ (zcodeW MX6_statement ∈ lw_all ∧ Cond.initialized MX6_statement.1.cls ∈ lw_all) := ⟨⟨by decide +kernel, by decide +kernel⟩, q1134, q110⟩
def RC_G_X6_bodies (g : zG) (lv : Nat) (rc : Nat → List Int → zM → Option zO) : Prop :=
  (∀ {x0 x1 x2 x3 : Int} {σ : zM} {out : zO}, rc 0 [x0, x1, x2, x3] σ = some out → Cj g lv MX6_bodies [zr x0, zr x1, zr x2, zi x3] σ out) ∧
  (∀ {x0 x1 x2 : Int} {σ : zM} {out : zO}, rc 1 [x0, x1, x2] σ = some out → Cj g lv MX6_body [zr x0, zr x1, zi x2] σ out) ∧
  (∀ {x0 x1 x2 x3 : Int} {σ : zM} {out : zO}, rc 2 [x0, x1, x2, x3] σ = some out → Cj g lv MX6_statement [zr x0, zr x1, zi x2, zi x3] σ out) ∧ True
noncomputable def f_X6_bodies_181 (rc : Nat → List Int → zM → Option zO) (x4 t0 t1 : Int) (σ : zM) : Option zO :=
  zgd (zis σ 7 t1) <|
  zcvT (f_X5_sign t1 t0 σ) (fun n a σ1 => some (n + 1, zr a, σ1)) fun σ1 =>
  some (0, zr x4, σ1)
theorem w_X6_bodies_181 {g : zG} {lv : Nat} {out : zO} (rc : Nat → List Int → zM → Option zO) (hrc : RC_G_X6_bodies g (lv + 50) rc) (x4 t0 t1 : Int) (σ : zM) {r : zO} (h : f_X6_bodies_181 rc x4 t0 t1 σ = some r) (hk : (fun o : zO => o = out) r) : Gj g MX6_bodies (lv + 51) 181 [(4, zr x4)] [zi t0, zr t1] σ out := by
  revert h
  unfold f_X6_bodies_181
  refine gb_gd (fun hb => ?_)
  refine gb_callVT (pc := 181) (as := [zr t1, zi t0]) (rest := []) (zCl.of (zLk_VU (M := MX6_bodies) (ci := 6) (r := (RX6, TX6, 8)) (x := ⟨"LassoFinder$ModelReader", "sign", "(C)V"⟩) plX5_sign.1 ⟨rfl, rfl⟩ rfl rfl (zisE hb).1 (zisE hb).2 dX6_bodies_181 q1109 q1110 q1113 q1112 q1114) plX5_sign (Nat.le_of_ble_eq_true rfl) (fun h => c_X5_sign h)) (fun n a s0 h => by cases h; exact Or.inl ⟨rfl, hk⟩) (fun σ1 => ?_)
  refine zst_ (gj_aload 0 (pc := 184) dX6_bodies_184 rfl) ?_
  intro h
  cases h
  have hk : (0, zr x4, σ1) = out := hk
  subst hk
  exact gj_aret (pc := 186) dX6_bodies_186 rfl (Or.inl ⟨_, rfl⟩)
noncomputable def f_X6_bodies_166 (rc : Nat → List Int → zM → Option zO) (x0 x1 x4 : Int) (σ : zM) : Option zO :=
  if x1 ≠ (-10) then
    f_X6_bodies_181 rc x4 93 x0 σ
  else
    f_X6_bodies_181 rc x4 62 x0 σ
theorem w_X6_bodies_166 {g : zG} {lv : Nat} {out : zO} (rc : Nat → List Int → zM → Option zO) (hrc : RC_G_X6_bodies g (lv + 50) rc) (x0 x1 x4 : Int) (σ : zM) {r : zO} (h : f_X6_bodies_166 rc x0 x1 x4 σ = some r) (hk : (fun o : zO => o = out) r) : Gj g MX6_bodies (lv + 51) 166 [(0, zr x0), (1, zr x1), (4, zr x4)] [] σ out := by
  revert h
  unfold f_X6_bodies_166
  refine zst_ (gj_aload_n 0 (pc := 166) dX6_bodies_166 rfl) ?_
  refine zst_ (gj_aload_n 1 (pc := 167) dX6_bodies_167 rfl) ?_
  refine zst_ (gj_enumL (pc := 168) (i := 8) (by decide) rfl rfl dX6_bodies_168 q1282 rfl) ?_
  refine gb_if (gj_acmp_ne 179 (pc := 171) dX6_bodies_171 (by decide)) ?_ ?_
  · refine zst_ (gj_bipush (pc := 179) dX6_bodies_179 ⟨rfl, by decide⟩) ?_
    refine zst_ (gj_sub [2] rfl) ?_
    exact fun h => w_X6_bodies_181 rc hrc x4 93 x0 σ h hk
  · refine zst_ (gj_bipush (pc := 174) dX6_bodies_174 ⟨rfl, by decide⟩) ?_
    refine zst_ (gj_goto 181 (pc := 176) dX6_bodies_176 (by decide)) ?_
    refine zst_ (gj_sub [2] rfl) ?_
    exact fun h => w_X6_bodies_181 rc hrc x4 62 x0 σ h hk
noncomputable def f_X6_bodies_126_b (rc : Nat → List Int → zM → Option zO) (x0 x1 x3 x4 x5 : Int) (σ : zM) : Option ((Int × zM) ⊕ zO) :=
  if x1 = (-10) then
    (f_X6_bodies_166 rc x0 x1 x4 σ).map (fun r => (.inr r))
  else
    zgd (zis σ 7 x0) <|
    zci (f_X5_take x0 124 σ) fun v1 σ2 =>
    if v1 = 0 then
      (f_X6_bodies_166 rc x0 x1 x4 σ2).map (fun r => (.inr r))
    else
      zcrT (rc 1 [x0, x4, (zadd x3 1)] σ2) (fun n a σ4 => some (.inr (n + 1, zr a, σ4))) fun v3 σ4 =>
      (zpf σ4 1104 x5 v3).bind fun σ5 =>
      (zgf σ5 1104 x5).bind fun v6 =>
      some (.inl (v6, σ5))
noncomputable def f_X6_bodies_126 (rc : Nat → List Int → zM → Option zO) (x0 x1 x3 x4 x5 : Int) (σ : zM) : Option zO :=
  zloop (fun s : Int × zM => f_X6_bodies_126_b rc x0 x1 x3 x4 s.1 s.2) (x5, σ)
theorem w_X6_bodies_126_b {g : zG} {lv : Nat} {out : zO} (rc : Nat → List Int → zM → Option zO) (hrc : RC_G_X6_bodies g (lv + 50) rc) (x0 x1 x3 x4 x5 : Int) (σ : zM) {r : ((Int × zM) ⊕ zO)} (h : f_X6_bodies_126_b rc x0 x1 x3 x4 x5 σ = some r) (hk : (zKL (fun s : Int × zM => Gj g MX6_bodies (lv + 51) 126 [(0, zr x0), (1, zr x1), (3, zi x3), (4, zr x4), (5, zr s.1)] [] s.2 out) (fun o : zO => o = out)) r) : Gj g MX6_bodies (lv + 51) 126 [(0, zr x0), (1, zr x1), (3, zi x3), (4, zr x4), (5, zr x5)] [] σ out := by
  revert h
  unfold f_X6_bodies_126_b
  refine zst_ (gj_aload_n 1 (pc := 126) dX6_bodies_126 rfl) ?_
  refine zst_ (gj_enumL (pc := 127) (i := 8) (by decide) rfl rfl dX6_bodies_127 q1282 rfl) ?_
  refine gb_if (gj_acmp_eq 166 (pc := 130) dX6_bodies_130 (by decide)) ?_ ?_
  · refine zst_ (gj_sub [0, 1, 3] rfl) ?_
    intro h
    obtain ⟨r0, h0, rfl⟩ := zmE h
    exact w_X6_bodies_166 rc hrc x0 x1 x4 σ h0 hk
  · refine zst_ (gj_aload_n 0 (pc := 133) dX6_bodies_133 rfl) ?_
    refine zst_ (gj_bipush (pc := 134) dX6_bodies_134 ⟨rfl, by decide⟩) ?_
    refine gb_gd (fun hb => ?_)
    refine gb_callI (pc := 136) (as := [zr x0, zi 124]) (rest := []) (zCl.of (zLk_VU (M := MX6_bodies) (ci := 6) (r := (RX6, TX6, 8)) (x := ⟨"LassoFinder$ModelReader", "take", "(C)Z"⟩) plX5_take.1 ⟨rfl, rfl⟩ rfl rfl (zisE hb).1 (zisE hb).2 dX6_bodies_136 q1076 q1077 q1080 q1079 q1081) plX5_take (Nat.le_of_ble_eq_true rfl) (fun h => c_X5_take h)) (fun v1 σ2 => ?_)
    refine gb_if (gj_if_eq 166 (pc := 139) dX6_bodies_139 (by decide)) ?_ ?_
    · refine zst_ (gj_sub [0, 1, 3] rfl) ?_
      intro h
      obtain ⟨r0, h0, rfl⟩ := zmE h
      exact w_X6_bodies_166 rc hrc x0 x1 x4 σ2 h0 hk
    · refine zst_ (gj_aload 4 (pc := 142) dX6_bodies_142 rfl) ?_
      refine zst_ (gj_aload_n 0 (pc := 144) dX6_bodies_144 rfl) ?_
      refine zst_ (gj_aload 3 (pc := 145) dX6_bodies_145 rfl) ?_
      refine zst_ (gj_iload_n 2 (pc := 147) dX6_bodies_147 rfl) ?_
      refine zst_ (gj_iconst (pc := 148) dX6_bodies_148 (by decide)) ?_
      refine zst_ (gj_iadd (pc := 149) dX6_bodies_149) ?_
      refine gb_callAT (pc := 150) (as := [zr x0, zr x4, zi (zadd x3 1)]) (rest := [zr x5]) (zCl.of (zLk_S (M := MX6_bodies) plX6_body.1 rfl dX6_bodies_150 q1125 q1126 q110 q1127) plX6_body (Nat.le_of_ble_eq_true rfl) (fun h => hrc.2.1 h)) (fun n a s0 h => by cases h; exact Or.inl ⟨rfl, hk⟩) (fun v3 σ4 => ?_)
      refine gb_putNe (pc := 153) fl1104 fr1104 dX6_bodies_153 q1163 (Or.inl rfl) (fun σ5 => ?_)
      refine zst_ (gj_aload 4 (pc := 156) dX6_bodies_156 rfl) ?_
      refine gb_getNe (pc := 158) fl1104 dX6_bodies_158 q1163 (Or.inl rfl) (fun v6 => ?_)
      refine zst_ (gj_astore (pc := 161) (ls' := [(5, zr v6), (0, zr x0), (1, zr x1), (3, zi x3), (4, zr x4)]) dX6_bodies_161 (by decide) rfl) ?_
      refine zst_ (gj_goto 126 (pc := 163) dX6_bodies_163 (by decide)) ?_
      refine zst_ (gj_sub [1, 2, 3, 4, 0] rfl) ?_
      intro h
      cases h
      exact hk
theorem w_X6_bodies_126 {g : zG} {lv : Nat} {out : zO} (rc : Nat → List Int → zM → Option zO) (hrc : RC_G_X6_bodies g (lv + 50) rc) (x0 x1 x3 x4 x5 : Int) (σ : zM) {r : zO} (h : f_X6_bodies_126 rc x0 x1 x3 x4 x5 σ = some r) (hk : (fun o : zO => o = out) r) : Gj g MX6_bodies (lv + 51) 126 [(0, zr x0), (1, zr x1), (3, zi x3), (4, zr x4), (5, zr x5)] [] σ out :=
  gj_loop (P := (fun s : Int × zM => Gj g MX6_bodies (lv + 51) 126 [(0, zr x0), (1, zr x1), (3, zi x3), (4, zr x4), (5, zr s.1)] [] s.2 out)) (fun s x hb hx => w_X6_bodies_126_b rc hrc x0 x1 x3 x4 s.1 s.2 hb hx) h hk
noncomputable def f_X6_bodies_92 (rc : Nat → List Int → zM → Option zO) (x0 x1 x3 x4 t0 : Int) (σ : zM) : Option zO :=
  zcvT (f_X5_need t0 σ) (fun n a σ1 => some (n + 1, zr a, σ1)) fun σ1 =>
  (zgf σ1 502 x0).bind fun v2 =>
  (zpf σ1 502 x0 (zadd v2 1)).bind fun σ3 =>
  zcrT (rc 1 [x0, x4, (zadd x3 1)] σ3) (fun n a σ5 => some (n + 1, zr a, σ5)) fun v4 σ5 =>
  (zpf σ5 1103 x4 v4).bind fun σ6 =>
  (zgf σ6 1103 x4).bind fun v7 =>
  f_X6_bodies_126 rc x0 x1 x3 x4 v7 σ6
theorem w_X6_bodies_92 {g : zG} {lv : Nat} {out : zO} (rc : Nat → List Int → zM → Option zO) (hrc : RC_G_X6_bodies g (lv + 50) rc) (x0 x1 x3 x4 t0 : Int) (σ : zM) {r : zO} (h : f_X6_bodies_92 rc x0 x1 x3 x4 t0 σ = some r) (hk : (fun o : zO => o = out) r) : Gj g MX6_bodies (lv + 51) 92 [(0, zr x0), (1, zr x1), (3, zi x3), (4, zr x4)] [zi t0] σ out := by
  revert h
  unfold f_X6_bodies_92
  refine gb_callVT (pc := 92) (as := [zi t0]) (rest := []) (zCl.of (zLk_SU (M := MX6_bodies) (x := ⟨"LassoFinder$ModelReader", "need", "(Z)V"⟩) plX5_need.1 ⟨rfl, rfl⟩ rfl dX6_bodies_92 q1083 q1084 q1085 q109 q1086) plX5_need (Nat.le_of_ble_eq_true rfl) (fun h => c_X5_need h)) (fun n a s0 h => by cases h; exact Or.inl ⟨rfl, hk⟩) (fun σ1 => ?_)
  refine zst_ (gj_aload_n 0 (pc := 95) dX6_bodies_95 rfl) ?_
  refine zst_ (gj_dup (pc := 96) dX6_bodies_96 rfl) ?_
  refine gb_get (pc := 97) fl502 dX6_bodies_97 q702 (Or.inr q703) (fun v2 => ?_)
  refine zst_ (gj_iconst (pc := 100) dX6_bodies_100 (by decide)) ?_
  refine zst_ (gj_iadd (pc := 101) dX6_bodies_101) ?_
  refine gb_put (pc := 102) fl502 fr502 dX6_bodies_102 q702 (Or.inr q703) (fun σ3 => ?_)
  refine zst_ (gj_aload 3 (pc := 105) dX6_bodies_105 rfl) ?_
  refine zst_ (gj_aload_n 0 (pc := 107) dX6_bodies_107 rfl) ?_
  refine zst_ (gj_aload 3 (pc := 108) dX6_bodies_108 rfl) ?_
  refine zst_ (gj_iload_n 2 (pc := 110) dX6_bodies_110 rfl) ?_
  refine zst_ (gj_iconst (pc := 111) dX6_bodies_111 (by decide)) ?_
  refine zst_ (gj_iadd (pc := 112) dX6_bodies_112) ?_
  refine gb_callAT (pc := 113) (as := [zr x0, zr x4, zi (zadd x3 1)]) (rest := [zr x4]) (zCl.of (zLk_S (M := MX6_bodies) plX6_body.1 rfl dX6_bodies_113 q1125 q1126 q110 q1127) plX6_body (Nat.le_of_ble_eq_true rfl) (fun h => hrc.2.1 h)) (fun n a s0 h => by cases h; exact Or.inl ⟨rfl, hk⟩) (fun v4 σ5 => ?_)
  refine gb_putNe (pc := 116) fl1103 fr1103 dX6_bodies_116 q1161 (Or.inl rfl) (fun σ6 => ?_)
  refine zst_ (gj_aload 3 (pc := 119) dX6_bodies_119 rfl) ?_
  refine gb_getNe (pc := 121) fl1103 dX6_bodies_121 q1161 (Or.inl rfl) (fun v7 => ?_)
  refine zst_ (gj_astore (pc := 124) (ls' := [(5, zr v7), (0, zr x0), (1, zr x1), (3, zi x3), (4, zr x4)]) dX6_bodies_124 (by decide) rfl) ?_
  refine zst_ (gj_sub [1, 2, 3, 4, 0] rfl) ?_
  exact fun h => w_X6_bodies_126 rc hrc x0 x1 x3 x4 v7 σ6 h hk
noncomputable def f_X6_bodies_91 (rc : Nat → List Int → zM → Option zO) (x0 x1 x3 x4 : Int) (σ : zM) : Option zO :=
  f_X6_bodies_92 rc x0 x1 x3 x4 0 σ
theorem w_X6_bodies_91 {g : zG} {lv : Nat} {out : zO} (rc : Nat → List Int → zM → Option zO) (hrc : RC_G_X6_bodies g (lv + 50) rc) (x0 x1 x3 x4 : Int) (σ : zM) {r : zO} (h : f_X6_bodies_91 rc x0 x1 x3 x4 σ = some r) (hk : (fun o : zO => o = out) r) : Gj g MX6_bodies (lv + 51) 91 [(0, zr x0), (1, zr x1), (3, zi x3), (4, zr x4)] [] σ out := by
  revert h
  unfold f_X6_bodies_91
  refine zst_ (gj_iconst (pc := 91) dX6_bodies_91 (by decide)) ?_
  exact fun h => w_X6_bodies_92 rc hrc x0 x1 x3 x4 0 σ h hk
noncomputable def f_X6_bodies_84 (rc : Nat → List Int → zM → Option zO) (x0 x1 x3 x4 t0 t1 : Int) (σ : zM) : Option zO :=
  if t1 ≠ t0 then
    f_X6_bodies_91 rc x0 x1 x3 x4 σ
  else
    f_X6_bodies_92 rc x0 x1 x3 x4 1 σ
theorem w_X6_bodies_84 {g : zG} {lv : Nat} {out : zO} (rc : Nat → List Int → zM → Option zO) (hrc : RC_G_X6_bodies g (lv + 50) rc) (x0 x1 x3 x4 t0 t1 : Int) (σ : zM) {r : zO} (h : f_X6_bodies_84 rc x0 x1 x3 x4 t0 t1 σ = some r) (hk : (fun o : zO => o = out) r) : Gj g MX6_bodies (lv + 51) 84 [(0, zr x0), (1, zr x1), (3, zi x3), (4, zr x4)] [zi t0, zi t1] σ out := by
  revert h
  unfold f_X6_bodies_84
  refine gb_if (gj_icmp_ne 91 (pc := 84) dX6_bodies_84 (by decide)) ?_ ?_
  · exact fun h => w_X6_bodies_91 rc hrc x0 x1 x3 x4 σ h hk
  · refine zst_ (gj_iconst (pc := 87) dX6_bodies_87 (by decide)) ?_
    refine zst_ (gj_goto 92 (pc := 88) dX6_bodies_88 (by decide)) ?_
    exact fun h => w_X6_bodies_92 rc hrc x0 x1 x3 x4 1 σ h hk
noncomputable def f_X6_bodies_60 (rc : Nat → List Int → zM → Option zO) (x0 x1 x3 x4 : Int) (σ : zM) : Option zO :=
  if 6 ≤ x3 then
    f_X6_bodies_91 rc x0 x1 x3 x4 σ
  else
    zgd (zis σ 7 x0) <|
    zci (f_X5_now x0 σ) fun v1 σ2 =>
    if x1 ≠ (-10) then
      f_X6_bodies_84 rc x0 x1 x3 x4 91 v1 σ2
    else
      f_X6_bodies_84 rc x0 x1 x3 x4 60 v1 σ2
theorem w_X6_bodies_60 {g : zG} {lv : Nat} {out : zO} (rc : Nat → List Int → zM → Option zO) (hrc : RC_G_X6_bodies g (lv + 50) rc) (x0 x1 x3 x4 : Int) (σ : zM) {r : zO} (h : f_X6_bodies_60 rc x0 x1 x3 x4 σ = some r) (hk : (fun o : zO => o = out) r) : Gj g MX6_bodies (lv + 51) 60 [(0, zr x0), (1, zr x1), (3, zi x3), (4, zr x4)] [] σ out := by
  revert h
  unfold f_X6_bodies_60
  refine zst_ (gj_iload_n 2 (pc := 60) dX6_bodies_60 rfl) ?_
  refine zst_ (gj_bipush (pc := 61) dX6_bodies_61 ⟨rfl, by decide⟩) ?_
  refine gb_if (gj_icmp_ge 91 (pc := 63) dX6_bodies_63 (by decide)) ?_ ?_
  · exact fun h => w_X6_bodies_91 rc hrc x0 x1 x3 x4 σ h hk
  · refine zst_ (gj_aload_n 0 (pc := 66) dX6_bodies_66 rfl) ?_
    refine gb_gd (fun hb => ?_)
    refine gb_callI (pc := 67) (as := [zr x0]) (rest := []) (zCl.of (zLk_VU (M := MX6_bodies) (ci := 6) (r := (RX6, TX6, 8)) (x := ⟨"LassoFinder$ModelReader", "now", "()C"⟩) plX5_now.1 ⟨rfl, rfl⟩ rfl rfl (zisE hb).1 (zisE hb).2 dX6_bodies_67 q1050 q1051 q1054 q1053 q1055) plX5_now (Nat.le_of_ble_eq_true rfl) (fun h => c_X5_now h)) (fun v1 σ2 => ?_)
    refine zst_ (gj_aload_n 1 (pc := 70) dX6_bodies_70 rfl) ?_
    refine zst_ (gj_enumL (pc := 71) (i := 8) (by decide) rfl rfl dX6_bodies_71 q1282 rfl) ?_
    refine gb_if (gj_acmp_ne 82 (pc := 74) dX6_bodies_74 (by decide)) ?_ ?_
    · refine zst_ (gj_bipush (pc := 82) dX6_bodies_82 ⟨rfl, by decide⟩) ?_
      exact fun h => w_X6_bodies_84 rc hrc x0 x1 x3 x4 91 v1 σ2 h hk
    · refine zst_ (gj_bipush (pc := 77) dX6_bodies_77 ⟨rfl, by decide⟩) ?_
      refine zst_ (gj_goto 84 (pc := 79) dX6_bodies_79 (by decide)) ?_
      exact fun h => w_X6_bodies_84 rc hrc x0 x1 x3 x4 60 v1 σ2 h hk
noncomputable def f_X6_bodies_43 (rc : Nat → List Int → zM → Option zO) (x0 x1 x3 x4 : Int) (σ : zM) : Option zO :=
  if x1 ≠ (-9) then
    f_X6_bodies_60 rc x0 x1 x3 x4 σ
  else
    (zgf σ 502 x0).bind fun v1 =>
    (zpf σ 502 x0 (zadd v1 1)).bind fun σ2 =>
    f_X6_bodies_60 rc x0 x1 x3 x4 σ2
theorem w_X6_bodies_43 {g : zG} {lv : Nat} {out : zO} (rc : Nat → List Int → zM → Option zO) (hrc : RC_G_X6_bodies g (lv + 50) rc) (x0 x1 x3 x4 : Int) (σ : zM) {r : zO} (h : f_X6_bodies_43 rc x0 x1 x3 x4 σ = some r) (hk : (fun o : zO => o = out) r) : Gj g MX6_bodies (lv + 51) 43 [(0, zr x0), (1, zr x1), (3, zi x3), (4, zr x4)] [] σ out := by
  revert h
  unfold f_X6_bodies_43
  refine zst_ (gj_aload_n 1 (pc := 43) dX6_bodies_43 rfl) ?_
  refine zst_ (gj_enumL (pc := 44) (i := 7) (by decide) rfl rfl dX6_bodies_44 q1292 rfl) ?_
  refine gb_if (gj_acmp_ne 60 (pc := 47) dX6_bodies_47 (by decide)) ?_ ?_
  · exact fun h => w_X6_bodies_60 rc hrc x0 x1 x3 x4 σ h hk
  · refine zst_ (gj_aload_n 0 (pc := 50) dX6_bodies_50 rfl) ?_
    refine zst_ (gj_dup (pc := 51) dX6_bodies_51 rfl) ?_
    refine gb_get (pc := 52) fl502 dX6_bodies_52 q702 (Or.inr q703) (fun v1 => ?_)
    refine zst_ (gj_iconst (pc := 55) dX6_bodies_55 (by decide)) ?_
    refine zst_ (gj_iadd (pc := 56) dX6_bodies_56) ?_
    refine gb_put (pc := 57) fl502 fr502 dX6_bodies_57 q702 (Or.inr q703) (fun σ2 => ?_)
    exact fun h => w_X6_bodies_60 rc hrc x0 x1 x3 x4 σ2 h hk
noncomputable def f_X6_bodies_40 (rc : Nat → List Int → zM → Option zO) (x0 x1 x3 x4 t0 : Int) (σ : zM) : Option zO :=
  zcvT (f_X5_need t0 σ) (fun n a σ1 => some (n + 1, zr a, σ1)) fun σ1 =>
  f_X6_bodies_43 rc x0 x1 x3 x4 σ1
theorem w_X6_bodies_40 {g : zG} {lv : Nat} {out : zO} (rc : Nat → List Int → zM → Option zO) (hrc : RC_G_X6_bodies g (lv + 50) rc) (x0 x1 x3 x4 t0 : Int) (σ : zM) {r : zO} (h : f_X6_bodies_40 rc x0 x1 x3 x4 t0 σ = some r) (hk : (fun o : zO => o = out) r) : Gj g MX6_bodies (lv + 51) 40 [(0, zr x0), (1, zr x1), (3, zi x3), (4, zr x4)] [zi t0] σ out := by
  revert h
  unfold f_X6_bodies_40
  refine gb_callVT (pc := 40) (as := [zi t0]) (rest := []) (zCl.of (zLk_SU (M := MX6_bodies) (x := ⟨"LassoFinder$ModelReader", "need", "(Z)V"⟩) plX5_need.1 ⟨rfl, rfl⟩ rfl dX6_bodies_40 q1083 q1084 q1085 q109 q1086) plX5_need (Nat.le_of_ble_eq_true rfl) (fun h => c_X5_need h)) (fun n a s0 h => by cases h; exact Or.inl ⟨rfl, hk⟩) (fun σ1 => ?_)
  exact fun h => w_X6_bodies_43 rc hrc x0 x1 x3 x4 σ1 h hk
noncomputable def f_X6_bodies (rc : Nat → List Int → zM → Option zO) (x0 x1 x2 x3 : Int) (σ : zM) : Option zO :=
  zgd (zis σ 7 x0) <|
  zcr (f_X6_fresh x0 x1 x2 σ) fun v1 σ2 =>
  if x1 = (-10) then
    zgd (zis σ2 12 v1) <|
    zcr (f_X11_around v1 (-10) σ2) fun v3 σ4 =>
    if v3 ≠ (-1) then
      f_X6_bodies_40 rc x0 x1 x3 v1 0 σ4
    else
      f_X6_bodies_40 rc x0 x1 x3 v1 1 σ4
  else
    zgd (zis σ2 7 x0) <|
    zcvT (f_X6_tally x0 v1 σ2) (fun n a σ5 => some (n + 1, zr a, σ5)) fun σ5 =>
    f_X6_bodies_43 rc x0 x1 x3 v1 σ5
theorem c_X6_bodies {g : zG} {lv : Nat} {rc : Nat → List Int → zM → Option zO} (hrc : RC_G_X6_bodies g (lv + 50) rc) {x0 x1 x2 x3 : Int} {σ : zM} {out : zO} (h : f_X6_bodies rc x0 x1 x2 x3 σ = some out) : Cj g (lv + 51) MX6_bodies [zr x0, zr x1, zr x2, zi x3] σ out := by
  refine cj_go (ls := [(0, zr x0), (1, zr x1), (2, zr x2), (3, zi x3)]) (by decide) (Nat.le_of_ble_eq_true rfl) rfl (zgen h (fun r hk => ?_))
  unfold f_X6_bodies
  refine zst_ (gj_aload_n 0 (pc := 0) dX6_bodies_0 rfl) ?_
  refine zst_ (gj_aload_n 1 (pc := 1) dX6_bodies_1 rfl) ?_
  refine zst_ (gj_aload_n 2 (pc := 2) dX6_bodies_2 rfl) ?_
  refine gb_gd (fun hb => ?_)
  refine gb_callA (pc := 3) (as := [zr x0, zr x1, zr x2]) (rest := []) (zCl.of (zLk_V (M := MX6_bodies) (ci := 6) (r := (RX6, TX6, 8)) plX6_fresh.1 rfl rfl (zisE hb).1 (zisE hb).2 dX6_bodies_3 q1140 q1142 qs6 q1143) plX6_fresh (Nat.le_of_ble_eq_true rfl) (fun h => c_X6_fresh h)) (fun v1 σ2 => ?_)
  refine zst_ (gj_astore (pc := 6) (ls' := [(4, zr v1), (0, zr x0), (1, zr x1), (2, zr x2), (3, zi x3)]) dX6_bodies_6 (by decide) rfl) ?_
  refine zst_ (gj_aload_n 2 (pc := 8) dX6_bodies_8 rfl) ?_
  refine zst_ (gj_enumL (pc := 9) (i := 8) (by decide) rfl rfl dX6_bodies_9 q1282 rfl) ?_
  refine gb_if (gj_acmp_eq 24 (pc := 12) dX6_bodies_12 (by decide)) ?_ ?_
  · refine zst_ (gj_aload 0 (pc := 24) dX6_bodies_24 rfl) ?_
    refine zst_ (gj_enumL (pc := 26) (i := 8) (by decide) rfl rfl dX6_bodies_26 q1282 rfl) ?_
    refine gb_gd (fun hb => ?_)
    refine gb_callA (pc := 29) (as := [zr v1, zr (-10)]) (rest := []) (zCl.of (zLk_V (M := MX6_bodies) (ci := 11) (r := (RX11, TX11, 12)) plX11_around.1 rfl rfl (zisE hb).1 (zisE hb).2 dX6_bodies_29 q1288 q1289 q1290 q1291) plX11_around (Nat.le_of_ble_eq_true rfl) (fun h => c_X11_around h)) (fun v3 σ4 => ?_)
    refine gb_if (gj_ifnonnull 39 (pc := 32) dX6_bodies_32 (by decide)) ?_ ?_
    · refine zst_ (gj_iconst (pc := 39) dX6_bodies_39 (by decide)) ?_
      refine zst_ (gj_sub [1, 2, 4, 0] rfl) ?_
      exact fun h => w_X6_bodies_40 rc hrc x0 x1 x3 v1 0 σ4 h hk
    · refine zst_ (gj_iconst (pc := 35) dX6_bodies_35 (by decide)) ?_
      refine zst_ (gj_goto 40 (pc := 36) dX6_bodies_36 (by decide)) ?_
      refine zst_ (gj_sub [1, 2, 4, 0] rfl) ?_
      exact fun h => w_X6_bodies_40 rc hrc x0 x1 x3 v1 1 σ4 h hk
  · refine zst_ (gj_aload_n 1 (pc := 15) dX6_bodies_15 rfl) ?_
    refine zst_ (gj_aload 0 (pc := 16) dX6_bodies_16 rfl) ?_
    refine gb_gd (fun hb => ?_)
    refine gb_callVT (pc := 18) (as := [zr x0, zr v1]) (rest := []) (zCl.of (zLk_V (M := MX6_bodies) (ci := 6) (r := (RX6, TX6, 8)) plX6_tally.1 rfl rfl (zisE hb).1 (zisE hb).2 dX6_bodies_18 q1284 q1286 qs10 q1287) plX6_tally (Nat.le_of_ble_eq_true rfl) (fun h => c_X6_tally h)) (fun n a s0 h => by cases h; exact Or.inl ⟨rfl, hk⟩) (fun σ5 => ?_)
    refine zst_ (gj_goto 43 (pc := 21) dX6_bodies_21 (by decide)) ?_
    refine zst_ (gj_sub [1, 2, 4, 0] rfl) ?_
    exact fun h => w_X6_bodies_43 rc hrc x0 x1 x3 v1 σ5 h hk
noncomputable def f_X6_body_97 (rc : Nat → List Int → zM → Option zO) (x3 : Int) (σ : zM) : Option zO :=
  some (0, zr x3, σ)
theorem w_X6_body_97 {g : zG} {lv : Nat} {out : zO} (rc : Nat → List Int → zM → Option zO) (hrc : RC_G_X6_bodies g (lv + 50) rc) (x3 : Int) (σ : zM) {r : zO} (h : f_X6_body_97 rc x3 σ = some r) (hk : (fun o : zO => o = out) r) : Gj g MX6_body (lv + 51) 97 [(3, zr x3)] [] σ out := by
  revert h
  unfold f_X6_body_97
  refine zst_ (gj_aload_n 0 (pc := 97) dX6_body_97 rfl) ?_
  intro h
  cases h
  have hk : (0, zr x3, σ) = out := hk
  subst hk
  exact gj_aret (pc := 98) dX6_body_98 rfl (Or.inl ⟨_, rfl⟩)
noncomputable def f_X6_body_84 (rc : Nat → List Int → zM → Option zO) (x0 x1 x2 x3 x6 : Int) (σ : zM) : Option ((Int × Int × zM) ⊕ zO) :=
  zgd (zis σ 7 x0) <|
  zci (f_X5_take x0 59 σ) fun v1 σ2 =>
  if v1 ≠ 0 then
    some (.inl (x3, x6, σ2))
  else
    (f_X6_body_97 rc x3 σ2).map (fun r => (.inr r))
theorem w_X6_body_84 {g : zG} {lv : Nat} {out : zO} (rc : Nat → List Int → zM → Option zO) (hrc : RC_G_X6_bodies g (lv + 50) rc) (x0 x1 x2 x3 x6 : Int) (σ : zM) {r : ((Int × Int × zM) ⊕ zO)} (h : f_X6_body_84 rc x0 x1 x2 x3 x6 σ = some r) (hk : (zKL (fun s : Int × Int × zM => Gj g MX6_body (lv + 51) 5 [(0, zr x0), (1, zr x1), (2, zi x2), (3, zr s.1), (4, zr s.2.1)] [] s.2.2 out) (fun o : zO => o = out)) r) : Gj g MX6_body (lv + 51) 84 [(0, zr x0), (1, zr x1), (2, zi x2), (3, zr x3), (6, zr x6)] [] σ out := by
  revert h
  unfold f_X6_body_84
  refine zst_ (gj_aload 4 (pc := 84) dX6_body_84 rfl) ?_
  refine zst_ (gj_astore (pc := 86) (ls' := [(4, zr x6), (0, zr x0), (1, zr x1), (2, zi x2), (3, zr x3), (6, zr x6)]) dX6_body_86 (by decide) rfl) ?_
  refine zst_ (gj_aload_n 1 (pc := 88) dX6_body_88 rfl) ?_
  refine zst_ (gj_bipush (pc := 89) dX6_body_89 ⟨rfl, by decide⟩) ?_
  refine gb_gd (fun hb => ?_)
  refine gb_callI (pc := 91) (as := [zr x0, zi 59]) (rest := []) (zCl.of (zLk_VU (M := MX6_body) (ci := 6) (r := (RX6, TX6, 8)) (x := ⟨"LassoFinder$ModelReader", "take", "(C)Z"⟩) plX5_take.1 ⟨rfl, rfl⟩ rfl rfl (zisE hb).1 (zisE hb).2 dX6_body_91 q1076 q1077 q1080 q1079 q1081) plX5_take (Nat.le_of_ble_eq_true rfl) (fun h => c_X5_take h)) (fun v1 σ2 => ?_)
  refine gb_if (gj_if_ne 5 (pc := 94) dX6_body_94 (by decide)) ?_ ?_
  · refine zst_ (gj_sub [1, 2, 3, 4, 0] rfl) ?_
    intro h
    cases h
    exact hk
  · refine zst_ (gj_sub [4] rfl) ?_
    intro h
    obtain ⟨r0, h0, rfl⟩ := zmE h
    exact w_X6_body_97 rc hrc x3 σ2 h0 hk
noncomputable def f_X6_body_67 (rc : Nat → List Int → zM → Option zO) (x0 x1 x2 x3 x4 x6 : Int) (σ : zM) : Option ((Int × Int × zM) ⊕ zO) :=
  if x3 ≠ (-1) then
    (zpf σ 1101 x4 x6).bind fun σ1 =>
    f_X6_body_84 rc x0 x1 x2 x3 x6 σ1
  else
    f_X6_body_84 rc x0 x1 x2 x6 x6 σ
theorem w_X6_body_67 {g : zG} {lv : Nat} {out : zO} (rc : Nat → List Int → zM → Option zO) (hrc : RC_G_X6_bodies g (lv + 50) rc) (x0 x1 x2 x3 x4 x6 : Int) (σ : zM) {r : ((Int × Int × zM) ⊕ zO)} (h : f_X6_body_67 rc x0 x1 x2 x3 x4 x6 σ = some r) (hk : (zKL (fun s : Int × Int × zM => Gj g MX6_body (lv + 51) 5 [(0, zr x0), (1, zr x1), (2, zi x2), (3, zr s.1), (4, zr s.2.1)] [] s.2.2 out) (fun o : zO => o = out)) r) : Gj g MX6_body (lv + 51) 67 [(0, zr x0), (1, zr x1), (2, zi x2), (3, zr x3), (4, zr x4), (6, zr x6)] [] σ out := by
  revert h
  unfold f_X6_body_67
  refine zst_ (gj_aload_n 3 (pc := 67) dX6_body_67 rfl) ?_
  refine gb_if (gj_ifnonnull 77 (pc := 68) dX6_body_68 (by decide)) ?_ ?_
  · refine zst_ (gj_aload 4 (pc := 77) dX6_body_77 rfl) ?_
    refine zst_ (gj_aload 5 (pc := 79) dX6_body_79 rfl) ?_
    refine gb_putNe (pc := 81) fl1101 fr1101 dX6_body_81 q1158 (Or.inl rfl) (fun σ1 => ?_)
    refine zst_ (gj_sub [0, 1, 2, 3, 5] rfl) ?_
    exact fun h => w_X6_body_84 rc hrc x0 x1 x2 x3 x6 σ1 h hk
  · refine zst_ (gj_aload 5 (pc := 71) dX6_body_71 rfl) ?_
    refine zst_ (gj_astore_n (pc := 73) (ls' := [(3, zr x6), (0, zr x0), (1, zr x1), (2, zi x2), (4, zr x4), (6, zr x6)]) dX6_body_73 (by decide) rfl) ?_
    refine zst_ (gj_goto 84 (pc := 74) dX6_body_74 (by decide)) ?_
    refine zst_ (gj_sub [1, 2, 3, 0, 5] rfl) ?_
    exact fun h => w_X6_body_84 rc hrc x0 x1 x2 x6 x6 σ h hk
noncomputable def f_X6_body_61 (rc : Nat → List Int → zM → Option zO) (x0 x1 x2 x3 x4 x5 x6 x7 : Int) (σ : zM) : Option ((Int × zM) ⊕ ((Int × Int × zM) ⊕ zO)) :=
  zlet (zadd x7 1) fun y1 =>
  some (.inl (y1, σ))
theorem w_X6_body_61 {g : zG} {lv : Nat} {out : zO} (rc : Nat → List Int → zM → Option zO) (hrc : RC_G_X6_bodies g (lv + 50) rc) (x0 x1 x2 x3 x4 x5 x6 x7 : Int) (σ : zM) {r : ((Int × zM) ⊕ ((Int × Int × zM) ⊕ zO))} (h : f_X6_body_61 rc x0 x1 x2 x3 x4 x5 x6 x7 σ = some r) (hk : (zKL (fun s : Int × zM => Gj g MX6_body (lv + 51) 31 [(0, zr x0), (1, zr x1), (2, zi x2), (3, zr x3), (4, zr x4), (5, zi x5), (6, zr x6), (7, zi s.1)] [] s.2 out) (zKL (fun s : Int × Int × zM => Gj g MX6_body (lv + 51) 5 [(0, zr x0), (1, zr x1), (2, zi x2), (3, zr s.1), (4, zr s.2.1)] [] s.2.2 out) (fun o : zO => o = out))) r) : Gj g MX6_body (lv + 51) 61 [(0, zr x0), (1, zr x1), (2, zi x2), (3, zr x3), (4, zr x4), (5, zi x5), (6, zr x6), (7, zi x7)] [] σ out := by
  revert h
  unfold f_X6_body_61
  refine gb_iinc (pc := 61) 7 (fun y1 => [(7, zi y1), (0, zr x0), (1, zr x1), (2, zi x2), (3, zr x3), (4, zr x4), (5, zi x5), (6, zr x6)]) dX6_body_61 rfl (by decide) (fun _ => rfl) (fun y1 => ?_)
  refine zst_ (gj_goto 31 (pc := 64) dX6_body_64 (by decide)) ?_
  refine zst_ (gj_sub [1, 2, 3, 4, 5, 6, 7, 0] rfl) ?_
  intro h
  cases h
  exact hk
noncomputable def f_X6_body_31_b (rc : Nat → List Int → zM → Option zO) (x0 x1 x2 x3 x4 x5 x6 x7 : Int) (σ : zM) : Option ((Int × zM) ⊕ ((Int × Int × zM) ⊕ zO)) :=
  if 8 ≤ x7 then
    (f_X6_body_67 rc x0 x1 x2 x3 x4 x6 σ).map (fun r => (.inr r))
  else
    if (zand (zshr x5 x7) 1) ≠ 1 then
      f_X6_body_61 rc x0 x1 x2 x3 x4 x5 x6 x7 σ
    else
      (zgf σ 607 x0).bind fun v1 =>
      (zgf σ 404 v1).bind fun v2 =>
      (zpr σ 106 v2 x7 x6).bind fun σ3 =>
      f_X6_body_61 rc x0 x1 x2 x3 x4 x5 x6 x7 σ3
noncomputable def f_X6_body_31 (rc : Nat → List Int → zM → Option zO) (x0 x1 x2 x3 x4 x5 x6 x7 : Int) (σ : zM) : Option ((Int × Int × zM) ⊕ zO) :=
  zloop (fun s : Int × zM => f_X6_body_31_b rc x0 x1 x2 x3 x4 x5 x6 s.1 s.2) (x7, σ)
theorem w_X6_body_31_b {g : zG} {lv : Nat} {out : zO} (rc : Nat → List Int → zM → Option zO) (hrc : RC_G_X6_bodies g (lv + 50) rc) (x0 x1 x2 x3 x4 x5 x6 x7 : Int) (σ : zM) {r : ((Int × zM) ⊕ ((Int × Int × zM) ⊕ zO))} (h : f_X6_body_31_b rc x0 x1 x2 x3 x4 x5 x6 x7 σ = some r) (hk : (zKL (fun s : Int × zM => Gj g MX6_body (lv + 51) 31 [(0, zr x0), (1, zr x1), (2, zi x2), (3, zr x3), (4, zr x4), (5, zi x5), (6, zr x6), (7, zi s.1)] [] s.2 out) (zKL (fun s : Int × Int × zM => Gj g MX6_body (lv + 51) 5 [(0, zr x0), (1, zr x1), (2, zi x2), (3, zr s.1), (4, zr s.2.1)] [] s.2.2 out) (fun o : zO => o = out))) r) : Gj g MX6_body (lv + 51) 31 [(0, zr x0), (1, zr x1), (2, zi x2), (3, zr x3), (4, zr x4), (5, zi x5), (6, zr x6), (7, zi x7)] [] σ out := by
  revert h
  unfold f_X6_body_31_b
  refine zst_ (gj_iload 7 (pc := 31) dX6_body_31 rfl) ?_
  refine zst_ (gj_bipush (pc := 33) dX6_body_33 ⟨rfl, by decide⟩) ?_
  refine gb_if (gj_icmp_ge 67 (pc := 35) dX6_body_35 (by decide)) ?_ ?_
  · refine zst_ (gj_sub [0, 1, 2, 3, 4, 6] rfl) ?_
    intro h
    obtain ⟨r0, h0, rfl⟩ := zmE h
    exact w_X6_body_67 rc hrc x0 x1 x2 x3 x4 x6 σ h0 hk
  · refine zst_ (gj_iload 5 (pc := 38) dX6_body_38 rfl) ?_
    refine zst_ (gj_iload 7 (pc := 40) dX6_body_40 rfl) ?_
    refine zst_ (gj_ishr (pc := 42) dX6_body_42) ?_
    refine zst_ (gj_iconst (pc := 43) dX6_body_43 (by decide)) ?_
    refine zst_ (gj_iand (pc := 44) dX6_body_44) ?_
    refine zst_ (gj_iconst (pc := 45) dX6_body_45 (by decide)) ?_
    refine gb_if (gj_icmp_ne 61 (pc := 46) dX6_body_46 (by decide)) ?_ ?_
    · exact fun h => w_X6_body_61 rc hrc x0 x1 x2 x3 x4 x5 x6 x7 σ h hk
    · refine zst_ (gj_aload_n 0 (pc := 49) dX6_body_49 rfl) ?_
      refine gb_get (pc := 50) fl607 dX6_body_50 q688 (Or.inl rfl) (fun v1 => ?_)
      refine gb_getNe (pc := 53) fl404 dX6_body_53 q245 (Or.inl rfl) (fun v2 => ?_)
      refine zst_ (gj_iload 7 (pc := 56) dX6_body_56 rfl) ?_
      refine zst_ (gj_aload 6 (pc := 58) dX6_body_58 rfl) ?_
      refine gb_aast (pc := 60) (k := 106) ⟨by decide, by decide⟩ dX6_body_60 (fun σ3 => ?_)
      exact fun h => w_X6_body_61 rc hrc x0 x1 x2 x3 x4 x5 x6 x7 σ3 h hk
theorem w_X6_body_31 {g : zG} {lv : Nat} {out : zO} (rc : Nat → List Int → zM → Option zO) (hrc : RC_G_X6_bodies g (lv + 50) rc) (x0 x1 x2 x3 x4 x5 x6 x7 : Int) (σ : zM) {r : ((Int × Int × zM) ⊕ zO)} (h : f_X6_body_31 rc x0 x1 x2 x3 x4 x5 x6 x7 σ = some r) (hk : (zKL (fun s : Int × Int × zM => Gj g MX6_body (lv + 51) 5 [(0, zr x0), (1, zr x1), (2, zi x2), (3, zr s.1), (4, zr s.2.1)] [] s.2.2 out) (fun o : zO => o = out)) r) : Gj g MX6_body (lv + 51) 31 [(0, zr x0), (1, zr x1), (2, zi x2), (3, zr x3), (4, zr x4), (5, zi x5), (6, zr x6), (7, zi x7)] [] σ out :=
  gj_loop (P := (fun s : Int × zM => Gj g MX6_body (lv + 51) 31 [(0, zr x0), (1, zr x1), (2, zi x2), (3, zr x3), (4, zr x4), (5, zi x5), (6, zr x6), (7, zi s.1)] [] s.2 out)) (fun s x hb hx => w_X6_body_31_b rc hrc x0 x1 x2 x3 x4 x5 x6 s.1 s.2 hb hx) h hk
noncomputable def f_X6_body_22 (rc : Nat → List Int → zM → Option zO) (x0 x1 x2 x3 x4 x5 t0 t1 t2 : Int) (σ : zM) : Option ((Int × Int × zM) ⊕ zO) :=
  zcrT (rc 2 [t2, t1, t0, x2] σ) (fun n a σ2 => some (.inr (n + 1, zr a, σ2))) fun v1 σ2 =>
  f_X6_body_31 rc x0 x1 x2 x3 x4 x5 v1 0 σ2
theorem w_X6_body_22 {g : zG} {lv : Nat} {out : zO} (rc : Nat → List Int → zM → Option zO) (hrc : RC_G_X6_bodies g (lv + 50) rc) (x0 x1 x2 x3 x4 x5 t0 t1 t2 : Int) (σ : zM) {r : ((Int × Int × zM) ⊕ zO)} (h : f_X6_body_22 rc x0 x1 x2 x3 x4 x5 t0 t1 t2 σ = some r) (hk : (zKL (fun s : Int × Int × zM => Gj g MX6_body (lv + 51) 5 [(0, zr x0), (1, zr x1), (2, zi x2), (3, zr s.1), (4, zr s.2.1)] [] s.2.2 out) (fun o : zO => o = out)) r) : Gj g MX6_body (lv + 51) 22 [(0, zr x0), (1, zr x1), (2, zi x2), (3, zr x3), (4, zr x4), (5, zi x5)] [zi t0, zr t1, zr t2] σ out := by
  revert h
  unfold f_X6_body_22
  refine zst_ (gj_iload_n 2 (pc := 22) dX6_body_22 rfl) ?_
  refine gb_callAT (pc := 23) (as := [zr t2, zr t1, zi t0, zi x2]) (rest := []) (zCl.of (zLk_S (M := MX6_body) plX6_statement.1 rfl dX6_body_23 q1132 q1133 q110 q1134) plX6_statement (Nat.le_of_ble_eq_true rfl) (fun h => hrc.2.2.1 h)) (fun n a s0 h => by cases h; exact Or.inl ⟨rfl, hk⟩) (fun v1 σ2 => ?_)
  refine zst_ (gj_astore (pc := 26) (ls' := [(6, zr v1), (0, zr x0), (1, zr x1), (2, zi x2), (3, zr x3), (4, zr x4), (5, zi x5)]) dX6_body_26 (by decide) rfl) ?_
  refine zst_ (gj_iconst (pc := 28) dX6_body_28 (by decide)) ?_
  refine zst_ (gj_istore (pc := 29) (ls' := [(7, zi 0), (6, zr v1), (0, zr x0), (1, zr x1), (2, zi x2), (3, zr x3), (4, zr x4), (5, zi x5)]) dX6_body_29 (by decide) rfl) ?_
  refine zst_ (gj_sub [2, 3, 4, 5, 6, 7, 1, 0] rfl) ?_
  exact fun h => w_X6_body_31 rc hrc x0 x1 x2 x3 x4 x5 v1 0 σ2 h hk
noncomputable def f_X6_body_5_b (rc : Nat → List Int → zM → Option zO) (x0 x1 x2 x3 x4 : Int) (σ : zM) : Option ((Int × Int × zM) ⊕ zO) :=
  zgd (zis σ 7 x0) <|
  zciT (f_X6_labels x0 σ) (fun n a σ2 => some (.inr (n + 1, zr a, σ2))) fun v1 σ2 =>
  if x3 ≠ (-1) then
    f_X6_body_22 rc x0 x1 x2 x3 x4 v1 0 x1 x0 σ2
  else
    f_X6_body_22 rc x0 x1 x2 x3 x4 v1 1 x1 x0 σ2
noncomputable def f_X6_body_5 (rc : Nat → List Int → zM → Option zO) (x0 x1 x2 x3 x4 : Int) (σ : zM) : Option zO :=
  zloop (fun s : Int × Int × zM => f_X6_body_5_b rc x0 x1 x2 s.1 s.2.1 s.2.2) (x3, x4, σ)
theorem w_X6_body_5_b {g : zG} {lv : Nat} {out : zO} (rc : Nat → List Int → zM → Option zO) (hrc : RC_G_X6_bodies g (lv + 50) rc) (x0 x1 x2 x3 x4 : Int) (σ : zM) {r : ((Int × Int × zM) ⊕ zO)} (h : f_X6_body_5_b rc x0 x1 x2 x3 x4 σ = some r) (hk : (zKL (fun s : Int × Int × zM => Gj g MX6_body (lv + 51) 5 [(0, zr x0), (1, zr x1), (2, zi x2), (3, zr s.1), (4, zr s.2.1)] [] s.2.2 out) (fun o : zO => o = out)) r) : Gj g MX6_body (lv + 51) 5 [(0, zr x0), (1, zr x1), (2, zi x2), (3, zr x3), (4, zr x4)] [] σ out := by
  revert h
  unfold f_X6_body_5_b
  refine zst_ (gj_aload_n 0 (pc := 5) dX6_body_5 rfl) ?_
  refine gb_gd (fun hb => ?_)
  refine gb_callIT (pc := 6) (as := [zr x0]) (rest := []) (zCl.of (zLk_V (M := MX6_body) (ci := 6) (r := (RX6, TX6, 8)) plX6_labels.1 rfl rfl (zisE hb).1 (zisE hb).2 dX6_body_6 q1128 q1130 qs5 q1131) plX6_labels (Nat.le_of_ble_eq_true rfl) (fun h => c_X6_labels h)) (fun n a s0 h => by cases h; exact Or.inl ⟨rfl, hk⟩) (fun v1 σ2 => ?_)
  refine zst_ (gj_istore (pc := 9) (ls' := [(5, zi v1), (0, zr x0), (1, zr x1), (2, zi x2), (3, zr x3), (4, zr x4)]) dX6_body_9 (by decide) rfl) ?_
  refine zst_ (gj_aload_n 1 (pc := 11) dX6_body_11 rfl) ?_
  refine zst_ (gj_aload_n 2 (pc := 12) dX6_body_12 rfl) ?_
  refine zst_ (gj_aload_n 4 (pc := 13) dX6_body_13 rfl) ?_
  refine gb_if (gj_ifnonnull 21 (pc := 14) dX6_body_14 (by decide)) ?_ ?_
  · refine zst_ (gj_iconst (pc := 21) dX6_body_21 (by decide)) ?_
    refine zst_ (gj_sub [1, 2, 3, 4, 5, 0] rfl) ?_
    exact fun h => w_X6_body_22 rc hrc x0 x1 x2 x3 x4 v1 0 x1 x0 σ2 h hk
  · refine zst_ (gj_iconst (pc := 17) dX6_body_17 (by decide)) ?_
    refine zst_ (gj_goto 22 (pc := 18) dX6_body_18 (by decide)) ?_
    refine zst_ (gj_sub [1, 2, 3, 4, 5, 0] rfl) ?_
    exact fun h => w_X6_body_22 rc hrc x0 x1 x2 x3 x4 v1 1 x1 x0 σ2 h hk
theorem w_X6_body_5 {g : zG} {lv : Nat} {out : zO} (rc : Nat → List Int → zM → Option zO) (hrc : RC_G_X6_bodies g (lv + 50) rc) (x0 x1 x2 x3 x4 : Int) (σ : zM) {r : zO} (h : f_X6_body_5 rc x0 x1 x2 x3 x4 σ = some r) (hk : (fun o : zO => o = out) r) : Gj g MX6_body (lv + 51) 5 [(0, zr x0), (1, zr x1), (2, zi x2), (3, zr x3), (4, zr x4)] [] σ out :=
  gj_loop (P := (fun s : Int × Int × zM => Gj g MX6_body (lv + 51) 5 [(0, zr x0), (1, zr x1), (2, zi x2), (3, zr s.1), (4, zr s.2.1)] [] s.2.2 out)) (fun s x hb hx => w_X6_body_5_b rc hrc x0 x1 x2 s.1 s.2.1 s.2.2 hb hx) h hk
noncomputable def f_X6_body (rc : Nat → List Int → zM → Option zO) (x0 x1 x2 : Int) (σ : zM) : Option zO :=
  f_X6_body_5 rc x0 x1 x2 (-1) (-1) σ
theorem c_X6_body {g : zG} {lv : Nat} {rc : Nat → List Int → zM → Option zO} (hrc : RC_G_X6_bodies g (lv + 50) rc) {x0 x1 x2 : Int} {σ : zM} {out : zO} (h : f_X6_body rc x0 x1 x2 σ = some out) : Cj g (lv + 51) MX6_body [zr x0, zr x1, zi x2] σ out := by
  refine cj_go (ls := [(0, zr x0), (1, zr x1), (2, zi x2)]) (by decide) (Nat.le_of_ble_eq_true rfl) rfl (zgen h (fun r hk => ?_))
  unfold f_X6_body
  refine zst_ (gj_null (pc := 0) dX6_body_0) ?_
  refine zst_ (gj_astore_n (pc := 1) (ls' := [(3, zr (-1)), (0, zr x0), (1, zr x1), (2, zi x2)]) dX6_body_1 (by decide) rfl) ?_
  refine zst_ (gj_null (pc := 2) dX6_body_2) ?_
  refine zst_ (gj_astore (pc := 3) (ls' := [(4, zr (-1)), (3, zr (-1)), (0, zr x0), (1, zr x1), (2, zi x2)]) dX6_body_3 (by decide) rfl) ?_
  refine zst_ (gj_sub [2, 3, 4, 1, 0] rfl) ?_
  exact fun h => w_X6_body_5 rc hrc x0 x1 x2 (-1) (-1) σ h hk
noncomputable def f_X6_statement_86 (rc : Nat → List Int → zM → Option zO) (x0 x1 x2 : Int) (σ : zM) : Option zO :=
  zgd (zis σ 7 x0) <|
  zcrT (f_X6_leap x0 x1 x2 σ) (fun n a σ2 => some (n + 1, zr a, σ2)) fun v1 σ2 =>
  some (0, zr v1, σ2)
theorem w_X6_statement_86 {g : zG} {lv : Nat} {out : zO} (rc : Nat → List Int → zM → Option zO) (hrc : RC_G_X6_bodies g (lv + 50) rc) (x0 x1 x2 : Int) (σ : zM) {r : zO} (h : f_X6_statement_86 rc x0 x1 x2 σ = some r) (hk : (fun o : zO => o = out) r) : Gj g MX6_statement (lv + 51) 86 [(0, zr x0), (1, zr x1), (2, zi x2)] [] σ out := by
  revert h
  unfold f_X6_statement_86
  refine zst_ (gj_aload_n 0 (pc := 86) dX6_statement_86 rfl) ?_
  refine zst_ (gj_aload_n 1 (pc := 87) dX6_statement_87 rfl) ?_
  refine zst_ (gj_iload_n 2 (pc := 88) dX6_statement_88 rfl) ?_
  refine gb_gd (fun hb => ?_)
  refine gb_callAT (pc := 89) (as := [zr x0, zr x1, zi x2]) (rest := []) (zCl.of (zLk_V (M := MX6_statement) (ci := 6) (r := (RX6, TX6, 8)) plX6_leap.1 rfl rfl (zisE hb).1 (zisE hb).2 dX6_statement_89 q1294 q1296 qs11 q1297) plX6_leap (Nat.le_of_ble_eq_true rfl) (fun h => c_X6_leap h)) (fun n a s0 h => by cases h; exact Or.inl ⟨rfl, hk⟩) (fun v1 σ2 => ?_)
  intro h
  cases h
  have hk : (0, zr v1, σ2) = out := hk
  subst hk
  exact gj_aret (pc := 92) dX6_statement_92 rfl (Or.inl ⟨_, rfl⟩)
noncomputable def f_X6_statement (rc : Nat → List Int → zM → Option zO) (x0 x1 x2 x3 : Int) (σ : zM) : Option zO :=
  zgd (zis σ 7 x0) <|
  zci (f_X5_now x0 σ) fun v1 σ2 =>
  if v1 = 42 then
    zcrT (rc 0 [x0, (-9), x1, x3] σ2) (fun n a σ4 => some (n + 1, zr a, σ4)) fun v3 σ4 =>
    some (0, zr v3, σ4)
  else if v1 = 46 then
    f_X6_statement_86 rc x0 x1 x2 σ2
  else if v1 = 60 then
    zcrT (rc 0 [x0, (-10), x1, x3] σ2) (fun n a σ6 => some (n + 1, zr a, σ6)) fun v5 σ6 =>
    some (0, zr v5, σ6)
  else if v1 = 91 then
    zcrT (rc 0 [x0, (-8), x1, x3] σ2) (fun n a σ8 => some (n + 1, zr a, σ8)) fun v7 σ8 =>
    some (0, zr v7, σ8)
  else if v1 = 94 then
    f_X6_statement_86 rc x0 x1 x2 σ2
  else 
    zgd (zis σ2 7 x0) <|
    zcrT (f_X6_basic x0 x1 x2 σ2) (fun n a σ10 => some (n + 1, zr a, σ10)) fun v9 σ10 =>
    some (0, zr v9, σ10)
theorem c_X6_statement {g : zG} {lv : Nat} {rc : Nat → List Int → zM → Option zO} (hrc : RC_G_X6_bodies g (lv + 50) rc) {x0 x1 x2 x3 : Int} {σ : zM} {out : zO} (h : f_X6_statement rc x0 x1 x2 x3 σ = some out) : Cj g (lv + 51) MX6_statement [zr x0, zr x1, zi x2, zi x3] σ out := by
  refine cj_go (ls := [(0, zr x0), (1, zr x1), (2, zi x2), (3, zi x3)]) (by decide) (Nat.le_of_ble_eq_true rfl) rfl (zgen h (fun r hk => ?_))
  unfold f_X6_statement
  refine zst_ (gj_aload_n 0 (pc := 0) dX6_statement_0 rfl) ?_
  refine gb_gd (fun hb => ?_)
  refine gb_callI (pc := 1) (as := [zr x0]) (rest := []) (zCl.of (zLk_VU (M := MX6_statement) (ci := 6) (r := (RX6, TX6, 8)) (x := ⟨"LassoFinder$ModelReader", "now", "()C"⟩) plX5_now.1 ⟨rfl, rfl⟩ rfl rfl (zisE hb).1 (zisE hb).2 dX6_statement_1 q1050 q1051 q1054 q1053 q1055) plX5_now (Nat.le_of_ble_eq_true rfl) (fun h => c_X5_now h)) (fun v1 σ2 => ?_)
  refine gb_ite (fun hc0 => ?_) (fun hc0 => ?_)
  · refine zst_ (fun kk => gj_lookup (pc := 4) dX6_statement_4 (by decide) ⟨66, by rw [hc0]; decide, kk⟩) ?_
    refine zst_ (gj_aload_n 0 (pc := 66) dX6_statement_66 rfl) ?_
    refine zst_ (gj_enumL (pc := 67) (i := 7) (by decide) rfl rfl dX6_statement_67 q1292 rfl) ?_
    refine zst_ (gj_aload_n 1 (pc := 70) dX6_statement_70 rfl) ?_
    refine zst_ (gj_iload_n 3 (pc := 71) dX6_statement_71 rfl) ?_
    refine gb_callAT (pc := 72) (as := [zr x0, zr (-9), zr x1, zi x3]) (rest := []) (zCl.of (zLk_S (M := MX6_statement) plX6_bodies.1 rfl dX6_statement_72 q1137 q1138 q110 q1139) plX6_bodies (Nat.le_of_ble_eq_true rfl) (fun h => hrc.1 h)) (fun n a s0 h => by cases h; exact Or.inl ⟨rfl, hk⟩) (fun v3 σ4 => ?_)
    intro h
    cases h
    have hk : (0, zr v3, σ4) = out := hk
    subst hk
    exact gj_aret (pc := 75) dX6_statement_75 rfl (Or.inl ⟨_, rfl⟩)
  · refine gb_ite (fun hc1 => ?_) (fun hc1 => ?_)
    · refine zst_ (fun kk => gj_lookup (pc := 4) dX6_statement_4 (by decide) ⟨86, by rw [hc1]; decide, kk⟩) ?_
      refine zst_ (gj_sub [0, 1, 2] rfl) ?_
      exact fun h => w_X6_statement_86 rc hrc x0 x1 x2 σ2 h hk
    · refine gb_ite (fun hc2 => ?_) (fun hc2 => ?_)
      · refine zst_ (fun kk => gj_lookup (pc := 4) dX6_statement_4 (by decide) ⟨76, by rw [hc2]; decide, kk⟩) ?_
        refine zst_ (gj_aload_n 0 (pc := 76) dX6_statement_76 rfl) ?_
        refine zst_ (gj_enumL (pc := 77) (i := 8) (by decide) rfl rfl dX6_statement_77 q1282 rfl) ?_
        refine zst_ (gj_aload_n 1 (pc := 80) dX6_statement_80 rfl) ?_
        refine zst_ (gj_iload_n 3 (pc := 81) dX6_statement_81 rfl) ?_
        refine gb_callAT (pc := 82) (as := [zr x0, zr (-10), zr x1, zi x3]) (rest := []) (zCl.of (zLk_S (M := MX6_statement) plX6_bodies.1 rfl dX6_statement_82 q1137 q1138 q110 q1139) plX6_bodies (Nat.le_of_ble_eq_true rfl) (fun h => hrc.1 h)) (fun n a s0 h => by cases h; exact Or.inl ⟨rfl, hk⟩) (fun v5 σ6 => ?_)
        intro h
        cases h
        have hk : (0, zr v5, σ6) = out := hk
        subst hk
        exact gj_aret (pc := 85) dX6_statement_85 rfl (Or.inl ⟨_, rfl⟩)
      · refine gb_ite (fun hc3 => ?_) (fun hc3 => ?_)
        · refine zst_ (fun kk => gj_lookup (pc := 4) dX6_statement_4 (by decide) ⟨56, by rw [hc3]; decide, kk⟩) ?_
          refine zst_ (gj_aload_n 0 (pc := 56) dX6_statement_56 rfl) ?_
          refine zst_ (gj_enumL (pc := 57) (i := 6) (by decide) rfl rfl dX6_statement_57 q1135 rfl) ?_
          refine zst_ (gj_aload_n 1 (pc := 60) dX6_statement_60 rfl) ?_
          refine zst_ (gj_iload_n 3 (pc := 61) dX6_statement_61 rfl) ?_
          refine gb_callAT (pc := 62) (as := [zr x0, zr (-8), zr x1, zi x3]) (rest := []) (zCl.of (zLk_S (M := MX6_statement) plX6_bodies.1 rfl dX6_statement_62 q1137 q1138 q110 q1139) plX6_bodies (Nat.le_of_ble_eq_true rfl) (fun h => hrc.1 h)) (fun n a s0 h => by cases h; exact Or.inl ⟨rfl, hk⟩) (fun v7 σ8 => ?_)
          intro h
          cases h
          have hk : (0, zr v7, σ8) = out := hk
          subst hk
          exact gj_aret (pc := 65) dX6_statement_65 rfl (Or.inl ⟨_, rfl⟩)
        · refine gb_ite (fun hc4 => ?_) (fun hc4 => ?_)
          · refine zst_ (fun kk => gj_lookup (pc := 4) dX6_statement_4 (by decide) ⟨86, by rw [hc4]; decide, kk⟩) ?_
            refine zst_ (gj_sub [0, 1, 2] rfl) ?_
            exact fun h => w_X6_statement_86 rc hrc x0 x1 x2 σ2 h hk
          · refine zst_ (fun kk => gj_lookup (pc := 4) dX6_statement_4 (by decide) ⟨93, by simp [Op.lookupswitch.offset, hc0, Ne.symm hc0, hc1, Ne.symm hc1, hc2, Ne.symm hc2, hc3, Ne.symm hc3, hc4, Ne.symm hc4], kk⟩) ?_
            refine zst_ (gj_aload_n 0 (pc := 93) dX6_statement_93 rfl) ?_
            refine zst_ (gj_aload_n 1 (pc := 94) dX6_statement_94 rfl) ?_
            refine zst_ (gj_iload_n 2 (pc := 95) dX6_statement_95 rfl) ?_
            refine gb_gd (fun hb => ?_)
            refine gb_callAT (pc := 96) (as := [zr x0, zr x1, zi x2]) (rest := []) (zCl.of (zLk_V (M := MX6_statement) (ci := 6) (r := (RX6, TX6, 8)) plX6_basic.1 rfl rfl (zisE hb).1 (zisE hb).2 dX6_statement_96 q1302 q1304 qs12 q1305) plX6_basic (Nat.le_of_ble_eq_true rfl) (fun h => c_X6_basic h)) (fun n a s0 h => by cases h; exact Or.inl ⟨rfl, hk⟩) (fun v9 σ10 => ?_)
            intro h
            cases h
            have hk : (0, zr v9, σ10) = out := hk
            subst hk
            exact gj_aret (pc := 99) dX6_statement_99 rfl (Or.inl ⟨_, rfl⟩)
noncomputable def f_G_X6_bodies : Nat → Nat → List Int → zM → Option zO
  | 0, _, _, _ => none
  | d + 1, tg, as, σ => match tg, as with
    | 0, [x0, x1, x2, x3] => f_X6_bodies (f_G_X6_bodies d) x0 x1 x2 x3 σ
    | 1, [x0, x1, x2] => f_X6_body (f_G_X6_bodies d) x0 x1 x2 σ
    | 2, [x0, x1, x2, x3] => f_X6_statement (f_G_X6_bodies d) x0 x1 x2 x3 σ
    | _, _ => none
theorem rc_G_X6_bodies (g : zG) : ∀ (d : Nat) {lv : Nat}, RC_G_X6_bodies g (lv + 50 + d) (f_G_X6_bodies d)
  | 0, lv => ⟨(fun h => by cases h), (fun h => by cases h), (fun h => by cases h), trivial⟩
  | d + 1, lv => by
    have ih := rc_G_X6_bodies g d (lv := lv)
    rw [show lv + 50 + d = lv + d + 50 by omega] at ih
    rw [show lv + 50 + (d + 1) = lv + d + 51 by omega]
    exact ⟨fun h => c_X6_bodies (lv := lv + d) ih h, fun h => c_X6_body (lv := lv + d) ih h, fun h => c_X6_statement (lv := lv + d) ih h, trivial⟩
theorem c_G_X6_bodies_0 {g : zG} {lv : Nat} {x0 x1 x2 x3 : Int} {σ : zM} {out : zO} (h : f_G_X6_bodies 40 0 [x0, x1, x2, x3] σ = some out) : Cj g (lv + 90) MX6_bodies [zr x0, zr x1, zr x2, zi x3] σ out := (rc_G_X6_bodies g 40 (lv := lv)).1 h
theorem c_G_X6_bodies_1 {g : zG} {lv : Nat} {x0 x1 x2 : Int} {σ : zM} {out : zO} (h : f_G_X6_bodies 40 1 [x0, x1, x2] σ = some out) : Cj g (lv + 90) MX6_body [zr x0, zr x1, zi x2] σ out := (rc_G_X6_bodies g 40 (lv := lv)).2.1 h
theorem c_G_X6_bodies_2 {g : zG} {lv : Nat} {x0 x1 x2 x3 : Int} {σ : zM} {out : zO} (h : f_G_X6_bodies 40 2 [x0, x1, x2, x3] σ = some out) : Cj g (lv + 90) MX6_statement [zr x0, zr x1, zi x2, zi x3] σ out := (rc_G_X6_bodies g 40 (lv := lv)).2.2.1 h
theorem q1388 : (Jvm.Cond.code ({ cls := "LassoFinder$Statement", name := "lead", desc := "(Z)LLassoFinder$Statement;" } : Jvm.MethodName) prog_19_method_4_code (6 : Nat) (Option.some (Jvm.ClassFile.FieldType.object "LassoFinder$Statement"))) ∈ lw_all := lw_g (lw_at lw_m6 88 rfl) rfl
theorem q1389 : (Jvm.Cond.fieldLink "LassoFinder$Statement" (51 : Nat) "LassoFinder$Kind" "REPETITION" "LLassoFinder$Kind;") ∈ lw_all := lw_g (lw_at lw_m6 89 rfl) rfl
theorem q1390 : (Jvm.Cond.fieldLink "LassoFinder$Statement" (56 : Nat) "LassoFinder$Kind" "BREAK" "LLassoFinder$Kind;") ∈ lw_all := lw_g (lw_at lw_m6 90 rfl) rfl
theorem q1391 : (Jvm.Cond.methodLink "LassoFinder$Statement" (59 : Nat) ({ cls := "LassoFinder$Statement", name := "around", desc := "(LLassoFinder$Kind;)LLassoFinder$Statement;" } : Jvm.MethodName)) ∈ lw_all := lw_g (lw_at lw_m6 91 rfl) rfl
theorem q1392 : (Jvm.Cond.fieldLink "LassoFinder$Statement" (63 : Nat) "LassoFinder$Kind" "ATOMIC" "LLassoFinder$Kind;") ∈ lw_all := lw_g (lw_at lw_m6 92 rfl) rfl
theorem q1393 : (Jvm.Cond.classLink "LassoFinder$Statement" (66 : Nat) "java/lang/IllegalArgumentException") ∈ lw_all := lw_g (lw_at lw_m6 93 rfl) rfl
theorem q1394 : (Jvm.Cond.methodLink "LassoFinder$Statement" (68 : Nat) ({ cls := "java/lang/IllegalArgumentException", name := "<init>", desc := "()V" } : Jvm.MethodName)) ∈ lw_all := lw_g (lw_at lw_m6 94 rfl) rfl
abbrev cX11_lead : ByteArray := prog_19_method_4_code
def yX11_lead : MethodName := ⟨RX11, "lead", "(Z)LLassoFinder$Statement;"⟩
theorem dX11_lead_0 : decode cX11_lead 0 = .ok (.aload_n 0, 1) := by decide +kernel
theorem dX11_lead_1 : decode cX11_lead 1 = .ok (.astore_n 2, 1) := by decide +kernel
theorem dX11_lead_2 : decode cX11_lead 2 = .ok (.iload_n 1, 1) := by decide +kernel
theorem dX11_lead_3 : decode cX11_lead 3 = .ok (.istore_n 3, 1) := by decide +kernel
theorem dX11_lead_4 : decode cX11_lead 4 = .ok (.iconst 0, 1) := by decide +kernel
theorem dX11_lead_5 : decode cX11_lead 5 = .ok (.istore 4, 2) := by decide +kernel
theorem dX11_lead_7 : decode cX11_lead 7 = .ok (.iload 4, 2) := by decide +kernel
theorem dX11_lead_9 : decode cX11_lead 9 = .ok (.sipush 960, 3) := by decide +kernel
theorem dX11_lead_12 : decode cX11_lead 12 = .ok (.if_icmp .ge 130, 3) := by decide +kernel
theorem dX11_lead_15 : decode cX11_lead 15 = .ok (.iload_n 3, 1) := by decide +kernel
theorem dX11_lead_16 : decode cX11_lead 16 = .ok (.ifCond .eq 65, 3) := by decide +kernel
theorem dX11_lead_19 : decode cX11_lead 19 = .ok (.aload_n 2, 1) := by decide +kernel
theorem dX11_lead_20 : decode cX11_lead 20 = .ok (.getfield 19, 3) := by decide +kernel
theorem dX11_lead_23 : decode cX11_lead 23 = .ok (.astore 5, 2) := by decide +kernel
theorem dX11_lead_25 : decode cX11_lead 25 = .ok (.aload_n 2, 1) := by decide +kernel
theorem dX11_lead_26 : decode cX11_lead 26 = .ok (.getfield 23, 3) := by decide +kernel
theorem dX11_lead_29 : decode cX11_lead 29 = .ok (.ifnonnull 22, 3) := by decide +kernel
theorem dX11_lead_32 : decode cX11_lead 32 = .ok (.aload 5, 2) := by decide +kernel
theorem dX11_lead_34 : decode cX11_lead 34 = .ok (.ifnull 14, 3) := by decide +kernel
theorem dX11_lead_37 : decode cX11_lead 37 = .ok (.aload 5, 2) := by decide +kernel
theorem dX11_lead_39 : decode cX11_lead 39 = .ok (.getfield 9, 3) := by decide +kernel
theorem dX11_lead_42 : decode cX11_lead 42 = .ok (.getstatic 51, 3) := by decide +kernel
theorem dX11_lead_45 : decode cX11_lead 45 = .ok (.if_acmp .ne 6, 3) := by decide +kernel
theorem dX11_lead_48 : decode cX11_lead 48 = .ok (.aload 5, 2) := by decide +kernel
theorem dX11_lead_50 : decode cX11_lead 50 = .ok (.areturn, 1) := by decide +kernel
theorem dX11_lead_51 : decode cX11_lead 51 = .ok (.aload_n 2, 1) := by decide +kernel
theorem dX11_lead_52 : decode cX11_lead 52 = .ok (.getfield 23, 3) := by decide +kernel
theorem dX11_lead_55 : decode cX11_lead 55 = .ok (.ifnonnull 7, 3) := by decide +kernel
theorem dX11_lead_58 : decode cX11_lead 58 = .ok (.iconst 1, 1) := by decide +kernel
theorem dX11_lead_59 : decode cX11_lead 59 = .ok (.goto 4, 3) := by decide +kernel
theorem dX11_lead_62 : decode cX11_lead 62 = .ok (.iconst 0, 1) := by decide +kernel
theorem dX11_lead_63 : decode cX11_lead 63 = .ok (.istore_n 3, 1) := by decide +kernel
theorem dX11_lead_64 : decode cX11_lead 64 = .ok (.iload_n 3, 1) := by decide +kernel
theorem dX11_lead_65 : decode cX11_lead 65 = .ok (.ifCond .eq 8, 3) := by decide +kernel
theorem dX11_lead_68 : decode cX11_lead 68 = .ok (.aload 5, 2) := by decide +kernel
theorem dX11_lead_70 : decode cX11_lead 70 = .ok (.goto 7, 3) := by decide +kernel
theorem dX11_lead_73 : decode cX11_lead 73 = .ok (.aload_n 2, 1) := by decide +kernel
theorem dX11_lead_74 : decode cX11_lead 74 = .ok (.getfield 23, 3) := by decide +kernel
theorem dX11_lead_77 : decode cX11_lead 77 = .ok (.astore_n 2, 1) := by decide +kernel
theorem dX11_lead_78 : decode cX11_lead 78 = .ok (.goto 58, 3) := by decide +kernel
theorem dX11_lead_81 : decode cX11_lead 81 = .ok (.aload_n 2, 1) := by decide +kernel
theorem dX11_lead_82 : decode cX11_lead 82 = .ok (.getfield 9, 3) := by decide +kernel
theorem dX11_lead_85 : decode cX11_lead 85 = .ok (.getstatic 56, 3) := by decide +kernel
theorem dX11_lead_88 : decode cX11_lead 88 = .ok (.if_acmp .ne 16, 3) := by decide +kernel
theorem dX11_lead_91 : decode cX11_lead 91 = .ok (.aload_n 2, 1) := by decide +kernel
theorem dX11_lead_92 : decode cX11_lead 92 = .ok (.getstatic 51, 3) := by decide +kernel
theorem dX11_lead_95 : decode cX11_lead 95 = .ok (.invokevirtual 59, 3) := by decide +kernel
theorem dX11_lead_98 : decode cX11_lead 98 = .ok (.astore_n 2, 1) := by decide +kernel
theorem dX11_lead_99 : decode cX11_lead 99 = .ok (.iconst 1, 1) := by decide +kernel
theorem dX11_lead_100 : decode cX11_lead 100 = .ok (.istore_n 3, 1) := by decide +kernel
theorem dX11_lead_101 : decode cX11_lead 101 = .ok (.goto 35, 3) := by decide +kernel
theorem dX11_lead_104 : decode cX11_lead 104 = .ok (.aload_n 2, 1) := by decide +kernel
theorem dX11_lead_105 : decode cX11_lead 105 = .ok (.getfield 9, 3) := by decide +kernel
theorem dX11_lead_108 : decode cX11_lead 108 = .ok (.getstatic 63, 3) := by decide +kernel
theorem dX11_lead_111 : decode cX11_lead 111 = .ok (.if_acmp .ne 11, 3) := by decide +kernel
theorem dX11_lead_114 : decode cX11_lead 114 = .ok (.aload_n 2, 1) := by decide +kernel
theorem dX11_lead_115 : decode cX11_lead 115 = .ok (.getfield 26, 3) := by decide +kernel
theorem dX11_lead_118 : decode cX11_lead 118 = .ok (.astore_n 2, 1) := by decide +kernel
theorem dX11_lead_119 : decode cX11_lead 119 = .ok (.goto 17, 3) := by decide +kernel
theorem dX11_lead_122 : decode cX11_lead 122 = .ok (.aload_n 2, 1) := by decide +kernel
theorem dX11_lead_123 : decode cX11_lead 123 = .ok (.getfield 32, 3) := by decide +kernel
theorem dX11_lead_126 : decode cX11_lead 126 = .ok (.ifnonnull 5, 3) := by decide +kernel
theorem dX11_lead_129 : decode cX11_lead 129 = .ok (.aload_n 2, 1) := by decide +kernel
theorem dX11_lead_130 : decode cX11_lead 130 = .ok (.areturn, 1) := by decide +kernel
theorem dX11_lead_131 : decode cX11_lead 131 = .ok (.aload_n 2, 1) := by decide +kernel
theorem dX11_lead_132 : decode cX11_lead 132 = .ok (.getfield 32, 3) := by decide +kernel
theorem dX11_lead_135 : decode cX11_lead 135 = .ok (.astore_n 2, 1) := by decide +kernel
theorem dX11_lead_136 : decode cX11_lead 136 = .ok (.iinc 4 1, 3) := by decide +kernel
theorem dX11_lead_139 : decode cX11_lead 139 = .ok (.goto (-132), 3) := by decide +kernel
theorem dX11_lead_142 : decode cX11_lead 142 = .ok (.new 66, 3) := by decide +kernel
theorem dX11_lead_145 : decode cX11_lead 145 = .ok (.dup, 1) := by decide +kernel
theorem dX11_lead_146 : decode cX11_lead 146 = .ok (.invokespecial 68, 3) := by decide +kernel
theorem dX11_lead_149 : decode cX11_lead 149 = .ok (.athrow, 1) := by decide +kernel
abbrev MX11_lead : zT := (yX11_lead, cX11_lead, 6, (Option.some (Jvm.ClassFile.FieldType.object "LassoFinder$Statement")), [])
theorem plX11_lead : zplain MX11_lead 1 ∧ (zcodeW MX11_lead ∈ lw_all ∧ Cond.initialized MX11_lead.1.cls ∈ lw_all) := ⟨⟨by decide +kernel, by decide +kernel⟩, q1388, q133⟩
noncomputable def f_X11_lead_142 (σ : zM) : Option zO :=
  (znX σ 51).bind fun σ1 =>
  zgd (zis σ1 51 (↑(zN σ) : Int)) <|
  some (1, zr (↑(zN σ) : Int), σ1)
theorem w_X11_lead_142 {g : zG} {lv : Nat} {out : zO} (σ : zM) {r : zO} (h : f_X11_lead_142  σ = some r) (hk : (fun o : zO => o = out) r) : Gj g MX11_lead (lv + 6) 142 [] [] σ out := by
  revert h
  unfold f_X11_lead_142
  refine gb_exc (pc := 142) (k := 51) ⟨by decide, by decide⟩ (by omega) (Nat.le_of_ble_eq_true rfl) dX11_lead_142 dX11_lead_145 dX11_lead_146 q1393 q1394 (fun σ1 => ?_)
  refine gb_gd (fun hb => ?_)
  intro h
  cases h
  have hk : (1, zr (↑(zN σ) : Int), σ1) = out := hk
  subst hk
  exact gj_athrow (pc := 149) (zisE hb).1 (zisE hb).2 (by decide) dX11_lead_149 rfl
noncomputable def f_X11_lead_136 (x2 x3 x4 : Int) (σ : zM) : Option ((Int × Int × Int × zM) ⊕ zO) :=
  zlet (zadd x4 1) fun y1 =>
  some (.inl (x2, x3, y1, σ))
theorem w_X11_lead_136 {g : zG} {lv : Nat} {out : zO} (x2 x3 x4 : Int) (σ : zM) {r : ((Int × Int × Int × zM) ⊕ zO)} (h : f_X11_lead_136 x2 x3 x4 σ = some r) (hk : (zKL (fun s : Int × Int × Int × zM => Gj g MX11_lead (lv + 6) 7 [(2, zr s.1), (3, zi s.2.1), (4, zi s.2.2.1)] [] s.2.2.2 out) (fun o : zO => o = out)) r) : Gj g MX11_lead (lv + 6) 136 [(2, zr x2), (3, zi x3), (4, zi x4)] [] σ out := by
  revert h
  unfold f_X11_lead_136
  refine gb_iinc (pc := 136) 2 (fun y1 => [(4, zi y1), (2, zr x2), (3, zi x3)]) dX11_lead_136 rfl (by decide) (fun _ => rfl) (fun y1 => ?_)
  refine zst_ (gj_goto 7 (pc := 139) dX11_lead_139 (by decide)) ?_
  refine zst_ (gj_sub [1, 2, 0] rfl) ?_
  intro h
  cases h
  exact hk
noncomputable def f_X11_lead_129 (x2 : Int) (σ : zM) : Option zO :=
  some (0, zr x2, σ)
theorem w_X11_lead_129 {g : zG} {lv : Nat} {out : zO} (x2 : Int) (σ : zM) {r : zO} (h : f_X11_lead_129 x2 σ = some r) (hk : (fun o : zO => o = out) r) : Gj g MX11_lead (lv + 6) 129 [(2, zr x2)] [] σ out := by
  revert h
  unfold f_X11_lead_129
  refine zst_ (gj_aload_n 0 (pc := 129) dX11_lead_129 rfl) ?_
  intro h
  cases h
  have hk : (0, zr x2, σ) = out := hk
  subst hk
  exact gj_aret (pc := 130) dX11_lead_130 rfl (Or.inl ⟨_, rfl⟩)
noncomputable def f_X11_lead_77 (x3 x4 t0 : Int) (σ : zM) : Option ((Int × Int × Int × zM) ⊕ zO) :=
  f_X11_lead_136 t0 x3 x4 σ
theorem w_X11_lead_77 {g : zG} {lv : Nat} {out : zO} (x3 x4 t0 : Int) (σ : zM) {r : ((Int × Int × Int × zM) ⊕ zO)} (h : f_X11_lead_77 x3 x4 t0 σ = some r) (hk : (zKL (fun s : Int × Int × Int × zM => Gj g MX11_lead (lv + 6) 7 [(2, zr s.1), (3, zi s.2.1), (4, zi s.2.2.1)] [] s.2.2.2 out) (fun o : zO => o = out)) r) : Gj g MX11_lead (lv + 6) 77 [(3, zi x3), (4, zi x4)] [zr t0] σ out := by
  revert h
  unfold f_X11_lead_77
  refine zst_ (gj_astore_n (pc := 77) (ls' := [(2, zr t0), (3, zi x3), (4, zi x4)]) dX11_lead_77 (by decide) rfl) ?_
  refine zst_ (gj_goto 136 (pc := 78) dX11_lead_78 (by decide)) ?_
  exact fun h => w_X11_lead_136 t0 x3 x4 σ h hk
noncomputable def f_X11_lead_63 (x2 x4 x5 t0 : Int) (σ : zM) : Option ((Int × Int × Int × zM) ⊕ zO) :=
  if t0 = 0 then
    (zgf σ 1101 x2).bind fun v1 =>
    f_X11_lead_77 t0 x4 v1 σ
  else
    f_X11_lead_77 t0 x4 x5 σ
theorem w_X11_lead_63 {g : zG} {lv : Nat} {out : zO} (x2 x4 x5 t0 : Int) (σ : zM) {r : ((Int × Int × Int × zM) ⊕ zO)} (h : f_X11_lead_63 x2 x4 x5 t0 σ = some r) (hk : (zKL (fun s : Int × Int × Int × zM => Gj g MX11_lead (lv + 6) 7 [(2, zr s.1), (3, zi s.2.1), (4, zi s.2.2.1)] [] s.2.2.2 out) (fun o : zO => o = out)) r) : Gj g MX11_lead (lv + 6) 63 [(2, zr x2), (4, zi x4), (5, zr x5)] [zi t0] σ out := by
  revert h
  unfold f_X11_lead_63
  refine zst_ (gj_istore_n (pc := 63) (ls' := [(3, zi t0), (2, zr x2), (4, zi x4), (5, zr x5)]) dX11_lead_63 (by decide) rfl) ?_
  refine zst_ (gj_iload_n 0 (pc := 64) dX11_lead_64 rfl) ?_
  refine gb_if (gj_if_eq 73 (pc := 65) dX11_lead_65 (by decide)) ?_ ?_
  · refine zst_ (gj_aload_n 1 (pc := 73) dX11_lead_73 rfl) ?_
    refine gb_get (pc := 74) fl1101 dX11_lead_74 q1157 (Or.inl rfl) (fun v1 => ?_)
    refine zst_ (gj_sub [0, 2] rfl) ?_
    exact fun h => w_X11_lead_77 t0 x4 v1 σ h hk
  · refine zst_ (gj_aload 3 (pc := 68) dX11_lead_68 rfl) ?_
    refine zst_ (gj_goto 77 (pc := 70) dX11_lead_70 (by decide)) ?_
    refine zst_ (gj_sub [0, 2] rfl) ?_
    exact fun h => w_X11_lead_77 t0 x4 x5 σ h hk
noncomputable def f_X11_lead_51 (x2 x4 x5 : Int) (σ : zM) : Option ((Int × Int × Int × zM) ⊕ zO) :=
  (zgf σ 1101 x2).bind fun v1 =>
  if v1 ≠ (-1) then
    f_X11_lead_63 x2 x4 x5 0 σ
  else
    f_X11_lead_63 x2 x4 x5 1 σ
theorem w_X11_lead_51 {g : zG} {lv : Nat} {out : zO} (x2 x4 x5 : Int) (σ : zM) {r : ((Int × Int × Int × zM) ⊕ zO)} (h : f_X11_lead_51 x2 x4 x5 σ = some r) (hk : (zKL (fun s : Int × Int × Int × zM => Gj g MX11_lead (lv + 6) 7 [(2, zr s.1), (3, zi s.2.1), (4, zi s.2.2.1)] [] s.2.2.2 out) (fun o : zO => o = out)) r) : Gj g MX11_lead (lv + 6) 51 [(2, zr x2), (4, zi x4), (5, zr x5)] [] σ out := by
  revert h
  unfold f_X11_lead_51
  refine zst_ (gj_aload_n 0 (pc := 51) dX11_lead_51 rfl) ?_
  refine gb_get (pc := 52) fl1101 dX11_lead_52 q1157 (Or.inl rfl) (fun v1 => ?_)
  refine gb_if (gj_ifnonnull 62 (pc := 55) dX11_lead_55 (by decide)) ?_ ?_
  · refine zst_ (gj_iconst (pc := 62) dX11_lead_62 (by decide)) ?_
    exact fun h => w_X11_lead_63 x2 x4 x5 0 σ h hk
  · refine zst_ (gj_iconst (pc := 58) dX11_lead_58 (by decide)) ?_
    refine zst_ (gj_goto 63 (pc := 59) dX11_lead_59 (by decide)) ?_
    exact fun h => w_X11_lead_63 x2 x4 x5 1 σ h hk
noncomputable def f_X11_lead_48 (x5 : Int) (σ : zM) : Option zO :=
  some (0, zr x5, σ)
theorem w_X11_lead_48 {g : zG} {lv : Nat} {out : zO} (x5 : Int) (σ : zM) {r : zO} (h : f_X11_lead_48 x5 σ = some r) (hk : (fun o : zO => o = out) r) : Gj g MX11_lead (lv + 6) 48 [(5, zr x5)] [] σ out := by
  revert h
  unfold f_X11_lead_48
  refine zst_ (gj_aload 0 (pc := 48) dX11_lead_48 rfl) ?_
  intro h
  cases h
  have hk : (0, zr x5, σ) = out := hk
  subst hk
  exact gj_aret (pc := 50) dX11_lead_50 rfl (Or.inl ⟨_, rfl⟩)
noncomputable def f_X11_lead_7_b (x2 x3 x4 : Int) (σ : zM) : Option ((Int × Int × Int × zM) ⊕ zO) :=
  if 960 ≤ x4 then
    (f_X11_lead_142 σ).map (fun r => (.inr r))
  else
    if x3 = 0 then
      (zgf σ 1100 x2).bind fun v1 =>
      if v1 ≠ (-11) then
        (zgf σ 1100 x2).bind fun v2 =>
        if v2 ≠ (-10) then
          (zgf σ 1105 x2).bind fun v3 =>
          if v3 ≠ (-1) then
            (zgf σ 1105 x2).bind fun v4 =>
            f_X11_lead_136 v4 x3 x4 σ
          else
            (f_X11_lead_129 x2 σ).map (fun r => (.inr r))
        else
          (zgf σ 1103 x2).bind fun v5 =>
          f_X11_lead_136 v5 x3 x4 σ
      else
        zgd (zis σ 12 x2) <|
        zcr (f_X11_around x2 (-9) σ) fun v6 σ7 =>
        f_X11_lead_136 v6 1 x4 σ7
    else
      (zgf σ 1102 x2).bind fun v8 =>
      (zgf σ 1101 x2).bind fun v9 =>
      if v9 ≠ (-1) then
        f_X11_lead_51 x2 x4 v8 σ
      else
        if v8 = (-1) then
          (f_X11_lead_48 v8 σ).map (fun r => (.inr r))
        else
          (zgf σ 1100 v8).bind fun v10 =>
          if v10 ≠ (-9) then
            f_X11_lead_51 x2 x4 v8 σ
          else
            (f_X11_lead_48 v8 σ).map (fun r => (.inr r))
noncomputable def f_X11_lead_7 (x2 x3 x4 : Int) (σ : zM) : Option zO :=
  zloop (fun s : Int × Int × Int × zM => f_X11_lead_7_b s.1 s.2.1 s.2.2.1 s.2.2.2) (x2, x3, x4, σ)
theorem w_X11_lead_7_b {g : zG} {lv : Nat} {out : zO} (x2 x3 x4 : Int) (σ : zM) {r : ((Int × Int × Int × zM) ⊕ zO)} (h : f_X11_lead_7_b x2 x3 x4 σ = some r) (hk : (zKL (fun s : Int × Int × Int × zM => Gj g MX11_lead (lv + 6) 7 [(2, zr s.1), (3, zi s.2.1), (4, zi s.2.2.1)] [] s.2.2.2 out) (fun o : zO => o = out)) r) : Gj g MX11_lead (lv + 6) 7 [(2, zr x2), (3, zi x3), (4, zi x4)] [] σ out := by
  revert h
  unfold f_X11_lead_7_b
  refine zst_ (gj_iload 2 (pc := 7) dX11_lead_7 rfl) ?_
  refine zst_ (gj_sipush (pc := 9) dX11_lead_9 ⟨rfl, by decide⟩) ?_
  refine gb_if (gj_icmp_ge 142 (pc := 12) dX11_lead_12 (by decide)) ?_ ?_
  · refine zst_ (gj_sub [] rfl) ?_
    intro h
    obtain ⟨r0, h0, rfl⟩ := zmE h
    exact w_X11_lead_142 σ h0 hk
  · refine zst_ (gj_iload_n 1 (pc := 15) dX11_lead_15 rfl) ?_
    refine gb_if (gj_if_eq 81 (pc := 16) dX11_lead_16 (by decide)) ?_ ?_
    · refine zst_ (gj_aload_n 0 (pc := 81) dX11_lead_81 rfl) ?_
      refine gb_get (pc := 82) fl1100 dX11_lead_82 q1154 (Or.inl rfl) (fun v1 => ?_)
      refine zst_ (gj_enumL (pc := 85) (i := 9) (by decide) rfl rfl dX11_lead_85 q1390 rfl) ?_
      refine gb_if (gj_acmp_ne 104 (pc := 88) dX11_lead_88 (by decide)) ?_ ?_
      · refine zst_ (gj_aload_n 0 (pc := 104) dX11_lead_104 rfl) ?_
        refine gb_get (pc := 105) fl1100 dX11_lead_105 q1154 (Or.inl rfl) (fun v2 => ?_)
        refine zst_ (gj_enumL (pc := 108) (i := 8) (by decide) rfl rfl dX11_lead_108 q1392 rfl) ?_
        refine gb_if (gj_acmp_ne 122 (pc := 111) dX11_lead_111 (by decide)) ?_ ?_
        · refine zst_ (gj_aload_n 0 (pc := 122) dX11_lead_122 rfl) ?_
          refine gb_get (pc := 123) fl1105 dX11_lead_123 q1164 (Or.inl rfl) (fun v3 => ?_)
          refine gb_if (gj_ifnonnull 131 (pc := 126) dX11_lead_126 (by decide)) ?_ ?_
          · refine zst_ (gj_aload_n 0 (pc := 131) dX11_lead_131 rfl) ?_
            refine gb_get (pc := 132) fl1105 dX11_lead_132 q1164 (Or.inl rfl) (fun v4 => ?_)
            refine zst_ (gj_astore_n (pc := 135) (ls' := [(2, zr v4), (3, zi x3), (4, zi x4)]) dX11_lead_135 (by decide) rfl) ?_
            exact fun h => w_X11_lead_136 v4 x3 x4 σ h hk
          · refine zst_ (gj_sub [0] rfl) ?_
            intro h
            obtain ⟨r0, h0, rfl⟩ := zmE h
            exact w_X11_lead_129 x2 σ h0 hk
        · refine zst_ (gj_aload_n 0 (pc := 114) dX11_lead_114 rfl) ?_
          refine gb_get (pc := 115) fl1103 dX11_lead_115 q1160 (Or.inl rfl) (fun v5 => ?_)
          refine zst_ (gj_astore_n (pc := 118) (ls' := [(2, zr v5), (3, zi x3), (4, zi x4)]) dX11_lead_118 (by decide) rfl) ?_
          refine zst_ (gj_goto 136 (pc := 119) dX11_lead_119 (by decide)) ?_
          exact fun h => w_X11_lead_136 v5 x3 x4 σ h hk
      · refine zst_ (gj_aload_n 0 (pc := 91) dX11_lead_91 rfl) ?_
        refine zst_ (gj_enumL (pc := 92) (i := 7) (by decide) rfl rfl dX11_lead_92 q1389 rfl) ?_
        refine gb_gd (fun hb => ?_)
        refine gb_callA (pc := 95) (as := [zr x2, zr (-9)]) (rest := []) (zCl.of (zLk_V (M := MX11_lead) (ci := 11) (r := (RX11, TX11, 12)) plX11_around.1 rfl rfl (zisE hb).1 (zisE hb).2 dX11_lead_95 q1391 q1289 q1290 q1291) plX11_around (Nat.le_of_ble_eq_true rfl) (fun h => c_X11_around h)) (fun v6 σ7 => ?_)
        refine zst_ (gj_astore_n (pc := 98) (ls' := [(2, zr v6), (3, zi x3), (4, zi x4)]) dX11_lead_98 (by decide) rfl) ?_
        refine zst_ (gj_iconst (pc := 99) dX11_lead_99 (by decide)) ?_
        refine zst_ (gj_istore_n (pc := 100) (ls' := [(3, zi 1), (2, zr v6), (4, zi x4)]) dX11_lead_100 (by decide) rfl) ?_
        refine zst_ (gj_goto 136 (pc := 101) dX11_lead_101 (by decide)) ?_
        refine zst_ (gj_sub [1, 0, 2] rfl) ?_
        exact fun h => w_X11_lead_136 v6 1 x4 σ7 h hk
    · refine zst_ (gj_aload_n 0 (pc := 19) dX11_lead_19 rfl) ?_
      refine gb_get (pc := 20) fl1102 dX11_lead_20 q1159 (Or.inl rfl) (fun v8 => ?_)
      refine zst_ (gj_astore (pc := 23) (ls' := [(5, zr v8), (2, zr x2), (3, zi x3), (4, zi x4)]) dX11_lead_23 (by decide) rfl) ?_
      refine zst_ (gj_aload_n 1 (pc := 25) dX11_lead_25 rfl) ?_
      refine gb_get (pc := 26) fl1101 dX11_lead_26 q1157 (Or.inl rfl) (fun v9 => ?_)
      refine gb_if (gj_ifnonnull 51 (pc := 29) dX11_lead_29 (by decide)) ?_ ?_
      · refine zst_ (gj_sub [1, 3, 0] rfl) ?_
        exact fun h => w_X11_lead_51 x2 x4 v8 σ h hk
      · refine zst_ (gj_aload 0 (pc := 32) dX11_lead_32 rfl) ?_
        refine gb_if (gj_ifnull 48 (pc := 34) dX11_lead_34 (by decide)) ?_ ?_
        · refine zst_ (gj_sub [0] rfl) ?_
          intro h
          obtain ⟨r0, h0, rfl⟩ := zmE h
          exact w_X11_lead_48 v8 σ h0 hk
        · refine zst_ (gj_aload 0 (pc := 37) dX11_lead_37 rfl) ?_
          refine gb_get (pc := 39) fl1100 dX11_lead_39 q1154 (Or.inl rfl) (fun v10 => ?_)
          refine zst_ (gj_enumL (pc := 42) (i := 7) (by decide) rfl rfl dX11_lead_42 q1389 rfl) ?_
          refine gb_if (gj_acmp_ne 51 (pc := 45) dX11_lead_45 (by decide)) ?_ ?_
          · refine zst_ (gj_sub [1, 3, 0] rfl) ?_
            exact fun h => w_X11_lead_51 x2 x4 v8 σ h hk
          · refine zst_ (gj_sub [0] rfl) ?_
            intro h
            obtain ⟨r0, h0, rfl⟩ := zmE h
            exact w_X11_lead_48 v8 σ h0 hk
theorem w_X11_lead_7 {g : zG} {lv : Nat} {out : zO} (x2 x3 x4 : Int) (σ : zM) {r : zO} (h : f_X11_lead_7 x2 x3 x4 σ = some r) (hk : (fun o : zO => o = out) r) : Gj g MX11_lead (lv + 6) 7 [(2, zr x2), (3, zi x3), (4, zi x4)] [] σ out :=
  gj_loop (P := (fun s : Int × Int × Int × zM => Gj g MX11_lead (lv + 6) 7 [(2, zr s.1), (3, zi s.2.1), (4, zi s.2.2.1)] [] s.2.2.2 out)) (fun s x hb hx => w_X11_lead_7_b s.1 s.2.1 s.2.2.1 s.2.2.2 hb hx) h hk
noncomputable def f_X11_lead (x0 x1 : Int) (σ : zM) : Option zO :=
  f_X11_lead_7 x0 x1 0 σ
theorem c_X11_lead {g : zG} {lv : Nat} {x0 x1 : Int} {σ : zM} {out : zO} (h : f_X11_lead x0 x1 σ = some out) : Cj g (lv + 6) MX11_lead [zr x0, zi x1] σ out := by
  refine cj_go (ls := [(0, zr x0), (1, zi x1)]) (by decide) (Nat.le_of_ble_eq_true rfl) rfl (zgen h (fun r hk => ?_))
  unfold f_X11_lead
  refine zst_ (gj_aload_n 0 (pc := 0) dX11_lead_0 rfl) ?_
  refine zst_ (gj_astore_n (pc := 1) (ls' := [(2, zr x0), (0, zr x0), (1, zi x1)]) dX11_lead_1 (by decide) rfl) ?_
  refine zst_ (gj_iload_n 2 (pc := 2) dX11_lead_2 rfl) ?_
  refine zst_ (gj_istore_n (pc := 3) (ls' := [(3, zi x1), (2, zr x0), (0, zr x0), (1, zi x1)]) dX11_lead_3 (by decide) rfl) ?_
  refine zst_ (gj_iconst (pc := 4) dX11_lead_4 (by decide)) ?_
  refine zst_ (gj_istore (pc := 5) (ls' := [(4, zi 0), (3, zi x1), (2, zr x0), (0, zr x0), (1, zi x1)]) dX11_lead_5 (by decide) rfl) ?_
  refine zst_ (gj_sub [2, 1, 0] rfl) ?_
  exact fun h => w_X11_lead_7 x0 x1 0 σ h hk
theorem q1165 : (Jvm.Cond.fieldLinkNest "LassoFinder$ModelReader" (150 : Nat) "LassoFinder$Statement" "target" "LLassoFinder$Statement;" "LassoFinder") ∈ lw_tbl := lw_at lw_m5 105 rfl
theorem q1167 : (Jvm.Cond.fieldLinkNest "LassoFinder$ModelReader" (153 : Nat) "LassoFinder$Statement" "place" "I" "LassoFinder") ∈ lw_tbl := lw_at lw_m5 107 rfl
theorem q1384 : (Jvm.Cond.code ({ cls := "LassoFinder$ModelReader", name := "jumps", desc := "(I)V" } : Jvm.MethodName) prog_10_method_6_code (4 : Nat) (Option.none : Option Jvm.ClassFile.FieldType)) ∈ lw_all := lw_g (lw_at lw_m6 84 rfl) rfl
theorem q1385 : (Jvm.Cond.methodLink "LassoFinder$ModelReader" (156 : Nat) ({ cls := "LassoFinder$Statement", name := "lead", desc := "(Z)LLassoFinder$Statement;" } : Jvm.MethodName)) ∈ lw_all := lw_g (lw_at lw_m6 85 rfl) rfl
theorem q1386 : (Jvm.Cond.instanceMethod ({ cls := "LassoFinder$Statement", name := "lead", desc := "(Z)LLassoFinder$Statement;" } : Jvm.MethodName)) ∈ lw_all := lw_g (lw_at lw_m6 86 rfl) rfl
theorem q1387 : (Jvm.Cond.selects "LassoFinder$Statement" ({ cls := "LassoFinder$Statement", name := "lead", desc := "(Z)LLassoFinder$Statement;" } : Jvm.MethodName) ({ cls := "LassoFinder$Statement", name := "lead", desc := "(Z)LLassoFinder$Statement;" } : Jvm.MethodName)) ∈ lw_all := lw_g (lw_at lw_m6 87 rfl) rfl
abbrev cX6_jumps : ByteArray := prog_10_method_6_code
def yX6_jumps : MethodName := ⟨RX6, "jumps", "(I)V"⟩
theorem dX6_jumps_0 : decode cX6_jumps 0 = .ok (.iload_n 1, 1) := by decide +kernel
theorem dX6_jumps_1 : decode cX6_jumps 1 = .ok (.istore_n 2, 1) := by decide +kernel
theorem dX6_jumps_2 : decode cX6_jumps 2 = .ok (.iload_n 2, 1) := by decide +kernel
theorem dX6_jumps_3 : decode cX6_jumps 3 = .ok (.aload_n 0, 1) := by decide +kernel
theorem dX6_jumps_4 : decode cX6_jumps 4 = .ok (.getfield 20, 3) := by decide +kernel
theorem dX6_jumps_7 : decode cX6_jumps 7 = .ok (.if_icmp .ge 47, 3) := by decide +kernel
theorem dX6_jumps_10 : decode cX6_jumps 10 = .ok (.aload_n 0, 1) := by decide +kernel
theorem dX6_jumps_11 : decode cX6_jumps 11 = .ok (.getfield 14, 3) := by decide +kernel
theorem dX6_jumps_14 : decode cX6_jumps 14 = .ok (.iload_n 2, 1) := by decide +kernel
theorem dX6_jumps_15 : decode cX6_jumps 15 = .ok (.invokevirtual 37, 3) := by decide +kernel
theorem dX6_jumps_18 : decode cX6_jumps 18 = .ok (.checkcast 28, 3) := by decide +kernel
theorem dX6_jumps_21 : decode cX6_jumps 21 = .ok (.astore_n 3, 1) := by decide +kernel
theorem dX6_jumps_22 : decode cX6_jumps 22 = .ok (.aload_n 3, 1) := by decide +kernel
theorem dX6_jumps_23 : decode cX6_jumps 23 = .ok (.getfield 134, 3) := by decide +kernel
theorem dX6_jumps_26 : decode cX6_jumps 26 = .ok (.getstatic 138, 3) := by decide +kernel
theorem dX6_jumps_29 : decode cX6_jumps 29 = .ok (.if_acmp .ne 19, 3) := by decide +kernel
theorem dX6_jumps_32 : decode cX6_jumps 32 = .ok (.aload_n 3, 1) := by decide +kernel
theorem dX6_jumps_33 : decode cX6_jumps 33 = .ok (.aload_n 0, 1) := by decide +kernel
theorem dX6_jumps_34 : decode cX6_jumps 34 = .ok (.getfield 113, 3) := by decide +kernel
theorem dX6_jumps_37 : decode cX6_jumps 37 = .ok (.getfield 143, 3) := by decide +kernel
theorem dX6_jumps_40 : decode cX6_jumps 40 = .ok (.aload_n 3, 1) := by decide +kernel
theorem dX6_jumps_41 : decode cX6_jumps 41 = .ok (.getfield 147, 3) := by decide +kernel
theorem dX6_jumps_44 : decode cX6_jumps 44 = .ok (.aaload, 1) := by decide +kernel
theorem dX6_jumps_45 : decode cX6_jumps 45 = .ok (.putfield 150, 3) := by decide +kernel
theorem dX6_jumps_48 : decode cX6_jumps 48 = .ok (.iinc 2 1, 3) := by decide +kernel
theorem dX6_jumps_51 : decode cX6_jumps 51 = .ok (.goto (-49), 3) := by decide +kernel
theorem dX6_jumps_54 : decode cX6_jumps 54 = .ok (.iload_n 1, 1) := by decide +kernel
theorem dX6_jumps_55 : decode cX6_jumps 55 = .ok (.istore_n 2, 1) := by decide +kernel
theorem dX6_jumps_56 : decode cX6_jumps 56 = .ok (.iload_n 2, 1) := by decide +kernel
theorem dX6_jumps_57 : decode cX6_jumps 57 = .ok (.aload_n 0, 1) := by decide +kernel
theorem dX6_jumps_58 : decode cX6_jumps 58 = .ok (.getfield 20, 3) := by decide +kernel
theorem dX6_jumps_61 : decode cX6_jumps 61 = .ok (.if_icmp .ge 65, 3) := by decide +kernel
theorem dX6_jumps_64 : decode cX6_jumps 64 = .ok (.aload_n 0, 1) := by decide +kernel
theorem dX6_jumps_65 : decode cX6_jumps 65 = .ok (.getfield 14, 3) := by decide +kernel
theorem dX6_jumps_68 : decode cX6_jumps 68 = .ok (.iload_n 2, 1) := by decide +kernel
theorem dX6_jumps_69 : decode cX6_jumps 69 = .ok (.invokevirtual 37, 3) := by decide +kernel
theorem dX6_jumps_72 : decode cX6_jumps 72 = .ok (.checkcast 28, 3) := by decide +kernel
theorem dX6_jumps_75 : decode cX6_jumps 75 = .ok (.astore_n 3, 1) := by decide +kernel
theorem dX6_jumps_76 : decode cX6_jumps 76 = .ok (.aload_n 0, 1) := by decide +kernel
theorem dX6_jumps_77 : decode cX6_jumps 77 = .ok (.aload_n 3, 1) := by decide +kernel
theorem dX6_jumps_78 : decode cX6_jumps 78 = .ok (.getfield 153, 3) := by decide +kernel
theorem dX6_jumps_81 : decode cX6_jumps 81 = .ok (.iconst 1, 1) := by decide +kernel
theorem dX6_jumps_82 : decode cX6_jumps 82 = .ok (.iadd, 1) := by decide +kernel
theorem dX6_jumps_83 : decode cX6_jumps 83 = .ok (.putfield 41, 3) := by decide +kernel
theorem dX6_jumps_86 : decode cX6_jumps 86 = .ok (.aload_n 3, 1) := by decide +kernel
theorem dX6_jumps_87 : decode cX6_jumps 87 = .ok (.getfield 134, 3) := by decide +kernel
theorem dX6_jumps_90 : decode cX6_jumps 90 = .ok (.getstatic 138, 3) := by decide +kernel
theorem dX6_jumps_93 : decode cX6_jumps 93 = .ok (.if_acmp .eq 6, 3) := by decide +kernel
theorem dX6_jumps_96 : decode cX6_jumps 96 = .ok (.goto 24, 3) := by decide +kernel
theorem dX6_jumps_99 : decode cX6_jumps 99 = .ok (.aload_n 3, 1) := by decide +kernel
theorem dX6_jumps_100 : decode cX6_jumps 100 = .ok (.getfield 150, 3) := by decide +kernel
theorem dX6_jumps_103 : decode cX6_jumps 103 = .ok (.ifnull 7, 3) := by decide +kernel
theorem dX6_jumps_106 : decode cX6_jumps 106 = .ok (.iconst 1, 1) := by decide +kernel
theorem dX6_jumps_107 : decode cX6_jumps 107 = .ok (.goto 4, 3) := by decide +kernel
theorem dX6_jumps_110 : decode cX6_jumps 110 = .ok (.iconst 0, 1) := by decide +kernel
theorem dX6_jumps_111 : decode cX6_jumps 111 = .ok (.invokestatic 90, 3) := by decide +kernel
theorem dX6_jumps_114 : decode cX6_jumps 114 = .ok (.aload_n 3, 1) := by decide +kernel
theorem dX6_jumps_115 : decode cX6_jumps 115 = .ok (.iconst 0, 1) := by decide +kernel
theorem dX6_jumps_116 : decode cX6_jumps 116 = .ok (.invokevirtual 156, 3) := by decide +kernel
theorem dX6_jumps_119 : decode cX6_jumps 119 = .ok (.pop, 1) := by decide +kernel
theorem dX6_jumps_120 : decode cX6_jumps 120 = .ok (.iinc 2 1, 3) := by decide +kernel
theorem dX6_jumps_123 : decode cX6_jumps 123 = .ok (.goto (-67), 3) := by decide +kernel
theorem dX6_jumps_126 : decode cX6_jumps 126 = .ok (.return_, 1) := by decide +kernel
abbrev MX6_jumps : zT := (yX6_jumps, cX6_jumps, 4, (Option.none : Option Jvm.ClassFile.FieldType), [])
theorem plX6_jumps : zplain MX6_jumps 1 ∧ (zcodeW MX6_jumps ∈ lw_all ∧ Cond.initialized MX6_jumps.1.cls ∈ lw_all) := ⟨⟨by decide +kernel, by decide +kernel⟩, q1384, q110⟩
noncomputable def f_X6_jumps_126 (σ : zM) : Option zO :=
  some (0, ((3, 0) : zV), σ)
theorem w_X6_jumps_126 {g : zG} {lv : Nat} {out : zO} (σ : zM) {r : zO} (h : f_X6_jumps_126  σ = some r) (hk : (fun o : zO => o = out) r) : Gj g MX6_jumps (lv + 7) 126 [] [] σ out := by
  revert h
  unfold f_X6_jumps_126
  intro h
  cases h
  have hk : (0, ((3, 0) : zV), σ) = out := hk
  subst hk
  exact gj_vret (pc := 126) dX6_jumps_126 rfl
noncomputable def f_X6_jumps_120 (x0 x2 : Int) (σ : zM) : Option ((Int × zM) ⊕ zO) :=
  zlet (zadd x2 1) fun y1 =>
  some (.inl (y1, σ))
theorem w_X6_jumps_120 {g : zG} {lv : Nat} {out : zO} (x0 x2 : Int) (σ : zM) {r : ((Int × zM) ⊕ zO)} (h : f_X6_jumps_120 x0 x2 σ = some r) (hk : (zKL (fun s : Int × zM => Gj g MX6_jumps (lv + 7) 56 [(0, zr x0), (2, zi s.1)] [] s.2 out) (fun o : zO => o = out)) r) : Gj g MX6_jumps (lv + 7) 120 [(0, zr x0), (2, zi x2)] [] σ out := by
  revert h
  unfold f_X6_jumps_120
  refine gb_iinc (pc := 120) 1 (fun y1 => [(2, zi y1), (0, zr x0)]) dX6_jumps_120 rfl (by decide) (fun _ => rfl) (fun y1 => ?_)
  refine zst_ (gj_goto 56 (pc := 123) dX6_jumps_123 (by decide)) ?_
  refine zst_ (gj_sub [1, 0] rfl) ?_
  intro h
  cases h
  exact hk
noncomputable def f_X6_jumps_111 (x0 x2 x3 t0 : Int) (σ : zM) : Option ((Int × zM) ⊕ zO) :=
  zcvT (f_X5_need t0 σ) (fun n a σ1 => some (.inr (n + 1, zr a, σ1))) fun σ1 =>
  zgd (zis σ1 12 x3) <|
  zcrT (f_X11_lead x3 0 σ1) (fun n a σ3 => some (.inr (n + 1, zr a, σ3))) fun v2 σ3 =>
  f_X6_jumps_120 x0 x2 σ3
theorem w_X6_jumps_111 {g : zG} {lv : Nat} {out : zO} (x0 x2 x3 t0 : Int) (σ : zM) {r : ((Int × zM) ⊕ zO)} (h : f_X6_jumps_111 x0 x2 x3 t0 σ = some r) (hk : (zKL (fun s : Int × zM => Gj g MX6_jumps (lv + 7) 56 [(0, zr x0), (2, zi s.1)] [] s.2 out) (fun o : zO => o = out)) r) : Gj g MX6_jumps (lv + 7) 111 [(0, zr x0), (2, zi x2), (3, zr x3)] [zi t0] σ out := by
  revert h
  unfold f_X6_jumps_111
  refine gb_callVT (pc := 111) (as := [zi t0]) (rest := []) (zCl.of (zLk_SU (M := MX6_jumps) (x := ⟨"LassoFinder$ModelReader", "need", "(Z)V"⟩) plX5_need.1 ⟨rfl, rfl⟩ rfl dX6_jumps_111 q1083 q1084 q1085 q109 q1086) plX5_need (Nat.le_of_ble_eq_true rfl) (fun h => c_X5_need h)) (fun n a s0 h => by cases h; exact Or.inl ⟨rfl, hk⟩) (fun σ1 => ?_)
  refine zst_ (gj_aload_n 2 (pc := 114) dX6_jumps_114 rfl) ?_
  refine zst_ (gj_iconst (pc := 115) dX6_jumps_115 (by decide)) ?_
  refine gb_gd (fun hb => ?_)
  refine gb_callAT (pc := 116) (as := [zr x3, zi 0]) (rest := []) (zCl.of (zLk_V (M := MX6_jumps) (ci := 11) (r := (RX11, TX11, 12)) plX11_lead.1 rfl rfl (zisE hb).1 (zisE hb).2 dX6_jumps_116 q1385 q1386 q1387 q1388) plX11_lead (Nat.le_of_ble_eq_true rfl) (fun h => c_X11_lead h)) (fun n a s0 h => by cases h; exact Or.inl ⟨rfl, hk⟩) (fun v2 σ3 => ?_)
  refine zst_ (gj_pop (pc := 119) dX6_jumps_119 rfl) ?_
  refine zst_ (gj_sub [0, 1] rfl) ?_
  exact fun h => w_X6_jumps_120 x0 x2 σ3 h hk
noncomputable def f_X6_jumps_56_b (x0 x2 : Int) (σ : zM) : Option ((Int × zM) ⊕ zO) :=
  (zgf σ 606 x0).bind fun v1 =>
  if v1 ≤ x2 then
    (f_X6_jumps_126 σ).map (fun r => (.inr r))
  else
    (zgf σ 605 x0).bind fun v2 =>
    zgd (zis σ 23 v2) <|
    zcr (f_J6_get v2 x2 σ) fun v3 σ4 =>
    zgd (zis σ4 12 v3) <|
    (zgf σ4 1106 v3).bind fun v5 =>
    (zpf σ4 502 x0 (zadd v5 1)).bind fun σ6 =>
    (zgf σ6 1100 v3).bind fun v7 =>
    if v7 = (-12) then
      (zgf σ6 1105 v3).bind fun v8 =>
      if v8 = (-1) then
        f_X6_jumps_111 x0 x2 v3 0 σ6
      else
        f_X6_jumps_111 x0 x2 v3 1 σ6
    else
      f_X6_jumps_120 x0 x2 σ6
noncomputable def f_X6_jumps_56 (x0 x2 : Int) (σ : zM) : Option zO :=
  zloop (fun s : Int × zM => f_X6_jumps_56_b x0 s.1 s.2) (x2, σ)
theorem w_X6_jumps_56_b {g : zG} {lv : Nat} {out : zO} (x0 x2 : Int) (σ : zM) {r : ((Int × zM) ⊕ zO)} (h : f_X6_jumps_56_b x0 x2 σ = some r) (hk : (zKL (fun s : Int × zM => Gj g MX6_jumps (lv + 7) 56 [(0, zr x0), (2, zi s.1)] [] s.2 out) (fun o : zO => o = out)) r) : Gj g MX6_jumps (lv + 7) 56 [(0, zr x0), (2, zi x2)] [] σ out := by
  revert h
  unfold f_X6_jumps_56_b
  refine zst_ (gj_iload_n 1 (pc := 56) dX6_jumps_56 rfl) ?_
  refine zst_ (gj_aload_n 0 (pc := 57) dX6_jumps_57 rfl) ?_
  refine gb_get (pc := 58) fl606 dX6_jumps_58 q687 (Or.inl rfl) (fun v1 => ?_)
  refine gb_if (gj_icmp_ge 126 (pc := 61) dX6_jumps_61 (by decide)) ?_ ?_
  · refine zst_ (gj_sub [] rfl) ?_
    intro h
    obtain ⟨r0, h0, rfl⟩ := zmE h
    exact w_X6_jumps_126 σ h0 hk
  · refine zst_ (gj_aload_n 0 (pc := 64) dX6_jumps_64 rfl) ?_
    refine gb_get (pc := 65) fl605 dX6_jumps_65 q686 (Or.inl rfl) (fun v2 => ?_)
    refine zst_ (gj_iload_n 1 (pc := 68) dX6_jumps_68 rfl) ?_
    refine gb_gd (fun hb => ?_)
    refine gb_callA (pc := 69) (as := [zr v2, zi x2]) (rest := []) (zCl.of (zLk_V (M := MX6_jumps) (ci := 22) (r := (RJ6, TJ6, 3)) plJ6_get.1 rfl rfl (zisE hb).1 (zisE hb).2 dX6_jumps_69 q1266 q1267 q1268 q1269) plJ6_get (Nat.le_of_ble_eq_true rfl) (fun h => c_J6_get h)) (fun v3 σ4 => ?_)
    refine gb_gd (fun hb => ?_)
    refine zst_ (gj_cast (pc := 72) (ci := 11) (r := (RX11, TX11, 12)) rfl (zisE hb).1 (zisE hb).2 dX6_jumps_72 q1148) ?_
    refine zst_ (gj_astore_n (pc := 75) (ls' := [(3, zr v3), (0, zr x0), (2, zi x2)]) dX6_jumps_75 (by decide) rfl) ?_
    refine zst_ (gj_aload_n 1 (pc := 76) dX6_jumps_76 rfl) ?_
    refine zst_ (gj_aload_n 0 (pc := 77) dX6_jumps_77 rfl) ?_
    refine gb_getNe (pc := 78) fl1106 dX6_jumps_78 q1167 (Or.inl rfl) (fun v5 => ?_)
    refine zst_ (gj_iconst (pc := 81) dX6_jumps_81 (by decide)) ?_
    refine zst_ (gj_iadd (pc := 82) dX6_jumps_82) ?_
    refine gb_put (pc := 83) fl502 fr502 dX6_jumps_83 q702 (Or.inr q703) (fun σ6 => ?_)
    refine zst_ (gj_aload_n 0 (pc := 86) dX6_jumps_86 rfl) ?_
    refine gb_getNe (pc := 87) fl1100 dX6_jumps_87 q1155 (Or.inl rfl) (fun v7 => ?_)
    refine zst_ (gj_enumL (pc := 90) (i := 10) (by decide) rfl rfl dX6_jumps_90 q1300 rfl) ?_
    refine gb_if (gj_acmp_eq 99 (pc := 93) dX6_jumps_93 (by decide)) ?_ ?_
    · refine zst_ (gj_aload_n 0 (pc := 99) dX6_jumps_99 rfl) ?_
      refine gb_getNe (pc := 100) fl1105 dX6_jumps_100 q1165 (Or.inl rfl) (fun v8 => ?_)
      refine gb_if (gj_ifnull 110 (pc := 103) dX6_jumps_103 (by decide)) ?_ ?_
      · refine zst_ (gj_iconst (pc := 110) dX6_jumps_110 (by decide)) ?_
        refine zst_ (gj_sub [1, 2, 0] rfl) ?_
        exact fun h => w_X6_jumps_111 x0 x2 v3 0 σ6 h hk
      · refine zst_ (gj_iconst (pc := 106) dX6_jumps_106 (by decide)) ?_
        refine zst_ (gj_goto 111 (pc := 107) dX6_jumps_107 (by decide)) ?_
        refine zst_ (gj_sub [1, 2, 0] rfl) ?_
        exact fun h => w_X6_jumps_111 x0 x2 v3 1 σ6 h hk
    · refine zst_ (gj_goto 120 (pc := 96) dX6_jumps_96 (by decide)) ?_
      refine zst_ (gj_sub [1, 2] rfl) ?_
      exact fun h => w_X6_jumps_120 x0 x2 σ6 h hk
theorem w_X6_jumps_56 {g : zG} {lv : Nat} {out : zO} (x0 x2 : Int) (σ : zM) {r : zO} (h : f_X6_jumps_56 x0 x2 σ = some r) (hk : (fun o : zO => o = out) r) : Gj g MX6_jumps (lv + 7) 56 [(0, zr x0), (2, zi x2)] [] σ out :=
  gj_loop (P := (fun s : Int × zM => Gj g MX6_jumps (lv + 7) 56 [(0, zr x0), (2, zi s.1)] [] s.2 out)) (fun s x hb hx => w_X6_jumps_56_b x0 s.1 s.2 hb hx) h hk
noncomputable def f_X6_jumps_54 (x0 x1 : Int) (σ : zM) : Option zO :=
  f_X6_jumps_56 x0 x1 σ
theorem w_X6_jumps_54 {g : zG} {lv : Nat} {out : zO} (x0 x1 : Int) (σ : zM) {r : zO} (h : f_X6_jumps_54 x0 x1 σ = some r) (hk : (fun o : zO => o = out) r) : Gj g MX6_jumps (lv + 7) 54 [(0, zr x0), (1, zi x1)] [] σ out := by
  revert h
  unfold f_X6_jumps_54
  refine zst_ (gj_iload_n 1 (pc := 54) dX6_jumps_54 rfl) ?_
  refine zst_ (gj_istore_n (pc := 55) (ls' := [(2, zi x1), (0, zr x0), (1, zi x1)]) dX6_jumps_55 (by decide) rfl) ?_
  refine zst_ (gj_sub [1, 0] rfl) ?_
  exact fun h => w_X6_jumps_56 x0 x1 σ h hk
noncomputable def f_X6_jumps_48 (x0 x1 x2 : Int) (σ : zM) : Option ((Int × zM) ⊕ zO) :=
  zlet (zadd x2 1) fun y1 =>
  some (.inl (y1, σ))
theorem w_X6_jumps_48 {g : zG} {lv : Nat} {out : zO} (x0 x1 x2 : Int) (σ : zM) {r : ((Int × zM) ⊕ zO)} (h : f_X6_jumps_48 x0 x1 x2 σ = some r) (hk : (zKL (fun s : Int × zM => Gj g MX6_jumps (lv + 7) 2 [(0, zr x0), (1, zi x1), (2, zi s.1)] [] s.2 out) (fun o : zO => o = out)) r) : Gj g MX6_jumps (lv + 7) 48 [(0, zr x0), (1, zi x1), (2, zi x2)] [] σ out := by
  revert h
  unfold f_X6_jumps_48
  refine gb_iinc (pc := 48) 2 (fun y1 => [(2, zi y1), (0, zr x0), (1, zi x1)]) dX6_jumps_48 rfl (by decide) (fun _ => rfl) (fun y1 => ?_)
  refine zst_ (gj_goto 2 (pc := 51) dX6_jumps_51 (by decide)) ?_
  refine zst_ (gj_sub [1, 2, 0] rfl) ?_
  intro h
  cases h
  exact hk
noncomputable def f_X6_jumps_2_b (x0 x1 x2 : Int) (σ : zM) : Option ((Int × zM) ⊕ zO) :=
  (zgf σ 606 x0).bind fun v1 =>
  if v1 ≤ x2 then
    (f_X6_jumps_54 x0 x1 σ).map (fun r => (.inr r))
  else
    (zgf σ 605 x0).bind fun v2 =>
    zgd (zis σ 23 v2) <|
    zcr (f_J6_get v2 x2 σ) fun v3 σ4 =>
    zgd (zis σ4 12 v3) <|
    (zgf σ4 1100 v3).bind fun v5 =>
    if v5 ≠ (-12) then
      f_X6_jumps_48 x0 x1 x2 σ4
    else
      (zgf σ4 607 x0).bind fun v6 =>
      (zgf σ4 404 v6).bind fun v7 =>
      (zgf σ4 1107 v3).bind fun v8 =>
      (zga σ4 106 v7 v8).bind fun v9 =>
      (zpf σ4 1105 v3 v9).bind fun σ10 =>
      f_X6_jumps_48 x0 x1 x2 σ10
noncomputable def f_X6_jumps_2 (x0 x1 x2 : Int) (σ : zM) : Option zO :=
  zloop (fun s : Int × zM => f_X6_jumps_2_b x0 x1 s.1 s.2) (x2, σ)
theorem w_X6_jumps_2_b {g : zG} {lv : Nat} {out : zO} (x0 x1 x2 : Int) (σ : zM) {r : ((Int × zM) ⊕ zO)} (h : f_X6_jumps_2_b x0 x1 x2 σ = some r) (hk : (zKL (fun s : Int × zM => Gj g MX6_jumps (lv + 7) 2 [(0, zr x0), (1, zi x1), (2, zi s.1)] [] s.2 out) (fun o : zO => o = out)) r) : Gj g MX6_jumps (lv + 7) 2 [(0, zr x0), (1, zi x1), (2, zi x2)] [] σ out := by
  revert h
  unfold f_X6_jumps_2_b
  refine zst_ (gj_iload_n 2 (pc := 2) dX6_jumps_2 rfl) ?_
  refine zst_ (gj_aload_n 0 (pc := 3) dX6_jumps_3 rfl) ?_
  refine gb_get (pc := 4) fl606 dX6_jumps_4 q687 (Or.inl rfl) (fun v1 => ?_)
  refine gb_if (gj_icmp_ge 54 (pc := 7) dX6_jumps_7 (by decide)) ?_ ?_
  · refine zst_ (gj_sub [0, 1] rfl) ?_
    intro h
    obtain ⟨r0, h0, rfl⟩ := zmE h
    exact w_X6_jumps_54 x0 x1 σ h0 hk
  · refine zst_ (gj_aload_n 0 (pc := 10) dX6_jumps_10 rfl) ?_
    refine gb_get (pc := 11) fl605 dX6_jumps_11 q686 (Or.inl rfl) (fun v2 => ?_)
    refine zst_ (gj_iload_n 2 (pc := 14) dX6_jumps_14 rfl) ?_
    refine gb_gd (fun hb => ?_)
    refine gb_callA (pc := 15) (as := [zr v2, zi x2]) (rest := []) (zCl.of (zLk_V (M := MX6_jumps) (ci := 22) (r := (RJ6, TJ6, 3)) plJ6_get.1 rfl rfl (zisE hb).1 (zisE hb).2 dX6_jumps_15 q1266 q1267 q1268 q1269) plJ6_get (Nat.le_of_ble_eq_true rfl) (fun h => c_J6_get h)) (fun v3 σ4 => ?_)
    refine gb_gd (fun hb => ?_)
    refine zst_ (gj_cast (pc := 18) (ci := 11) (r := (RX11, TX11, 12)) rfl (zisE hb).1 (zisE hb).2 dX6_jumps_18 q1148) ?_
    refine zst_ (gj_astore_n (pc := 21) (ls' := [(3, zr v3), (0, zr x0), (1, zi x1), (2, zi x2)]) dX6_jumps_21 (by decide) rfl) ?_
    refine zst_ (gj_aload_n 0 (pc := 22) dX6_jumps_22 rfl) ?_
    refine gb_getNe (pc := 23) fl1100 dX6_jumps_23 q1155 (Or.inl rfl) (fun v5 => ?_)
    refine zst_ (gj_enumL (pc := 26) (i := 10) (by decide) rfl rfl dX6_jumps_26 q1300 rfl) ?_
    refine gb_if (gj_acmp_ne 48 (pc := 29) dX6_jumps_29 (by decide)) ?_ ?_
    · refine zst_ (gj_sub [1, 2, 3] rfl) ?_
      exact fun h => w_X6_jumps_48 x0 x1 x2 σ4 h hk
    · refine zst_ (gj_aload_n 0 (pc := 32) dX6_jumps_32 rfl) ?_
      refine zst_ (gj_aload_n 1 (pc := 33) dX6_jumps_33 rfl) ?_
      refine gb_get (pc := 34) fl607 dX6_jumps_34 q688 (Or.inl rfl) (fun v6 => ?_)
      refine gb_getNe (pc := 37) fl404 dX6_jumps_37 q245 (Or.inl rfl) (fun v7 => ?_)
      refine zst_ (gj_aload_n 0 (pc := 40) dX6_jumps_40 rfl) ?_
      refine gb_getNe (pc := 41) fl1107 dX6_jumps_41 q1169 (Or.inl rfl) (fun v8 => ?_)
      refine gb_aald (pc := 44) (k := 106) ⟨by decide, by decide⟩ dX6_jumps_44 (fun v9 => ?_)
      refine gb_putNe (pc := 45) fl1105 fr1105 dX6_jumps_45 q1165 (Or.inl rfl) (fun σ10 => ?_)
      refine zst_ (gj_sub [1, 2, 3] rfl) ?_
      exact fun h => w_X6_jumps_48 x0 x1 x2 σ10 h hk
theorem w_X6_jumps_2 {g : zG} {lv : Nat} {out : zO} (x0 x1 x2 : Int) (σ : zM) {r : zO} (h : f_X6_jumps_2 x0 x1 x2 σ = some r) (hk : (fun o : zO => o = out) r) : Gj g MX6_jumps (lv + 7) 2 [(0, zr x0), (1, zi x1), (2, zi x2)] [] σ out :=
  gj_loop (P := (fun s : Int × zM => Gj g MX6_jumps (lv + 7) 2 [(0, zr x0), (1, zi x1), (2, zi s.1)] [] s.2 out)) (fun s x hb hx => w_X6_jumps_2_b x0 x1 s.1 s.2 hb hx) h hk
noncomputable def f_X6_jumps (x0 x1 : Int) (σ : zM) : Option zO :=
  f_X6_jumps_2 x0 x1 x1 σ
theorem c_X6_jumps {g : zG} {lv : Nat} {x0 x1 : Int} {σ : zM} {out : zO} (h : f_X6_jumps x0 x1 σ = some out) : Cj g (lv + 7) MX6_jumps [zr x0, zi x1] σ out := by
  refine cj_go (ls := [(0, zr x0), (1, zi x1)]) (by decide) (Nat.le_of_ble_eq_true rfl) rfl (zgen h (fun r hk => ?_))
  unfold f_X6_jumps
  refine zst_ (gj_iload_n 1 (pc := 0) dX6_jumps_0 rfl) ?_
  refine zst_ (gj_istore_n (pc := 1) (ls' := [(2, zi x1), (0, zr x0), (1, zi x1)]) dX6_jumps_1 (by decide) rfl) ?_
  refine zst_ (gj_sub [1, 2, 0] rfl) ?_
  exact fun h => w_X6_jumps_2 x0 x1 x1 σ h hk
theorem q1177 : (Jvm.Cond.fieldLinkNest "LassoFinder$Routine" (36 : Nat) "LassoFinder$Statement" "point" "I" "LassoFinder") ∈ lw_tbl := lw_at lw_m5 117 rfl
theorem q1402 : (Jvm.Cond.code ({ cls := "LassoFinder$Routine", name := "pointOf", desc := "(LLassoFinder$Statement;)I" } : Jvm.MethodName) prog_17_method_3_code (2 : Nat) (Option.some Jvm.ClassFile.FieldType.int)) ∈ lw_all := lw_g (lw_at lw_m6 102 rfl) rfl
abbrev cX4_pointOf : ByteArray := prog_17_method_3_code
def yX4_pointOf : MethodName := ⟨RX4, "pointOf", "(LLassoFinder$Statement;)I"⟩
theorem dX4_pointOf_0 : decode cX4_pointOf 0 = .ok (.aload_n 1, 1) := by decide +kernel
theorem dX4_pointOf_1 : decode cX4_pointOf 1 = .ok (.ifnonnull 10, 3) := by decide +kernel
theorem dX4_pointOf_4 : decode cX4_pointOf 4 = .ok (.aload_n 0, 1) := by decide +kernel
theorem dX4_pointOf_5 : decode cX4_pointOf 5 = .ok (.getfield 29, 3) := by decide +kernel
theorem dX4_pointOf_8 : decode cX4_pointOf 8 = .ok (.goto 7, 3) := by decide +kernel
theorem dX4_pointOf_11 : decode cX4_pointOf 11 = .ok (.aload_n 1, 1) := by decide +kernel
theorem dX4_pointOf_12 : decode cX4_pointOf 12 = .ok (.getfield 36, 3) := by decide +kernel
theorem dX4_pointOf_15 : decode cX4_pointOf 15 = .ok (.ireturn, 1) := by decide +kernel
abbrev MX4_pointOf : zT := (yX4_pointOf, cX4_pointOf, 2, (Option.some Jvm.ClassFile.FieldType.int), [])
theorem plX4_pointOf : zplain MX4_pointOf 1 ∧ (zcodeW MX4_pointOf ∈ lw_all ∧ Cond.initialized MX4_pointOf.1.cls ∈ lw_all) := ⟨⟨by decide +kernel, by decide +kernel⟩, q1402, q108⟩
noncomputable def f_X4_pointOf_15 (t0 : Int) (σ : zM) : Option zO :=
  some (0, zi t0, σ)
theorem w_X4_pointOf_15 {g : zG} {lv : Nat} {out : zO} (t0 : Int) (σ : zM) {r : zO} (h : f_X4_pointOf_15 t0 σ = some r) (hk : (fun o : zO => o = out) r) : Gj g MX4_pointOf (lv) 15 [] [zi t0] σ out := by
  revert h
  unfold f_X4_pointOf_15
  intro h
  cases h
  have hk : (0, zi t0, σ) = out := hk
  subst hk
  exact gj_ret (pc := 15) (t := .int) dX4_pointOf_15 rfl ⟨rfl, rfl⟩ (fun h => h)
noncomputable def f_X4_pointOf (x0 x1 : Int) (σ : zM) : Option zO :=
  if x1 ≠ (-1) then
    (zgf σ 1110 x1).bind fun v1 =>
    f_X4_pointOf_15 v1 σ
  else
    (zgf σ 401 x0).bind fun v2 =>
    f_X4_pointOf_15 v2 σ
theorem c_X4_pointOf {g : zG} {lv : Nat} {x0 x1 : Int} {σ : zM} {out : zO} (h : f_X4_pointOf x0 x1 σ = some out) : Cj g (lv) MX4_pointOf [zr x0, zr x1] σ out := by
  refine cj_go (ls := [(0, zr x0), (1, zr x1)]) (by decide) (Nat.le_of_ble_eq_true rfl) rfl (zgen h (fun r hk => ?_))
  unfold f_X4_pointOf
  refine zst_ (gj_aload_n 1 (pc := 0) dX4_pointOf_0 rfl) ?_
  refine gb_if (gj_ifnonnull 11 (pc := 1) dX4_pointOf_1 (by decide)) ?_ ?_
  · refine zst_ (gj_aload_n 1 (pc := 11) dX4_pointOf_11 rfl) ?_
    refine gb_getNe (pc := 12) fl1110 dX4_pointOf_12 q1177 (Or.inl rfl) (fun v1 => ?_)
    refine zst_ (gj_sub [] rfl) ?_
    exact fun h => w_X4_pointOf_15 v1 σ h hk
  · refine zst_ (gj_aload_n 0 (pc := 4) dX4_pointOf_4 rfl) ?_
    refine gb_get (pc := 5) fl401 dX4_pointOf_5 q238 (Or.inl rfl) (fun v2 => ?_)
    refine zst_ (gj_goto 15 (pc := 8) dX4_pointOf_8 (by decide)) ?_
    refine zst_ (gj_sub [] rfl) ?_
    exact fun h => w_X4_pointOf_15 v2 σ h hk
theorem q131 : (Jvm.Cond.initialized "java/lang/Enum") ∈ lw_all := lw_g (lw_at lw_m1 31 rfl) rfl
theorem q1412 : (Jvm.Cond.code ({ cls := "java/lang/Enum", name := "ordinal", desc := "()I" } : Jvm.MethodName) prog_27_method_2_code (1 : Nat) (Option.some Jvm.ClassFile.FieldType.int)) ∈ lw_all := lw_g (lw_at lw_m6 112 rfl) rfl
theorem q2514 : (Jvm.Cond.fieldLink "java/lang/Enum" (7 : Nat) "java/lang/Enum" "ordinal" "I") ∈ lw_all := lw_g (lw_at lw_m11 14 rfl) rfl
abbrev cJ20_ordinal : ByteArray := prog_27_method_2_code
def yJ20_ordinal : MethodName := ⟨RJ20, "ordinal", "()I"⟩
theorem dJ20_ordinal_0 : decode cJ20_ordinal 0 = .ok (.aload_n 0, 1) := by decide +kernel
theorem dJ20_ordinal_1 : decode cJ20_ordinal 1 = .ok (.getfield 7, 3) := by decide +kernel
theorem dJ20_ordinal_4 : decode cJ20_ordinal 4 = .ok (.ireturn, 1) := by decide +kernel
abbrev MJ20_ordinal : zT := (yJ20_ordinal, cJ20_ordinal, 1, (Option.some Jvm.ClassFile.FieldType.int), [])
theorem plJ20_ordinal : zplain MJ20_ordinal 0 ∧ (zcodeW MJ20_ordinal ∈ lw_all ∧ Cond.initialized MJ20_ordinal.1.cls ∈ lw_all) := ⟨⟨by decide +kernel, by decide +kernel⟩, q1412, q131⟩
noncomputable def f_J20_ordinal (x0 : Int) (σ : zM) : Option zO :=
  zgd (zen x0) <|
  some (0, zi (-2 - x0), σ)
theorem c_J20_ordinal {g : zG} {lv : Nat} {x0 : Int} {σ : zM} {out : zO} (h : f_J20_ordinal x0 σ = some out) : Cj g (lv) MJ20_ordinal [zr x0] σ out := by
  refine cj_go (ls := [(0, zr x0)]) (by decide) (Nat.le_of_ble_eq_true rfl) rfl (zgen h (fun r hk => ?_))
  unfold f_J20_ordinal
  refine zst_ (gj_aload_n 0 (pc := 0) dJ20_ordinal_0 rfl) ?_
  refine gb_gd (fun hb => ?_)
  refine zst_ (gj_ordE (pc := 1) hb dJ20_ordinal_1 q2514 rfl) ?_
  intro h
  cases h
  have hk : (0, zi (-2 - x0), σ) = out := hk
  subst hk
  exact gj_ret (pc := 4) (t := .int) dJ20_ordinal_4 rfl ⟨rfl, rfl⟩ (fun h => h)
theorem q132 : (Jvm.Cond.initialized "LassoFinder$Kind") ∈ lw_all := lw_g (lw_at lw_m1 32 rfl) rfl
theorem q1406 : (Jvm.Cond.code ({ cls := "LassoFinder$Kind", name := "isPoint", desc := "()Z" } : Jvm.MethodName) prog_8_method_5_code (1 : Nat) (Option.some Jvm.ClassFile.FieldType.boolean)) ∈ lw_all := lw_g (lw_at lw_m6 106 rfl) rfl
theorem q1407 : (Jvm.Cond.methodLink "LassoFinder$Kind" (56 : Nat) ({ cls := "LassoFinder$Kind", name := "ordinal", desc := "()I" } : Jvm.MethodName)) ∈ lw_all := lw_g (lw_at lw_m6 107 rfl) rfl
theorem q1408 : (Jvm.Cond.sameMethod "LassoFinder$Kind" "java/lang/Enum" "ordinal" "()I") ∈ lw_all := lw_g (lw_at lw_m6 108 rfl) rfl
theorem q1410 : (Jvm.Cond.selects "LassoFinder$Kind" ({ cls := "LassoFinder$Kind", name := "ordinal", desc := "()I" } : Jvm.MethodName) ({ cls := "java/lang/Enum", name := "ordinal", desc := "()I" } : Jvm.MethodName)) ∈ lw_all := lw_g (lw_at lw_m6 110 rfl) rfl
theorem q1411 : (Jvm.Cond.instanceMethod ({ cls := "java/lang/Enum", name := "ordinal", desc := "()I" } : Jvm.MethodName)) ∈ lw_all := lw_g (lw_at lw_m6 111 rfl) rfl
theorem q1413 : (Jvm.Cond.fieldLink "LassoFinder$Kind" (25 : Nat) "LassoFinder$Kind" "REPETITION" "LLassoFinder$Kind;") ∈ lw_all := lw_g (lw_at lw_m6 113 rfl) rfl
abbrev cX10_isPoint : ByteArray := prog_8_method_5_code
def yX10_isPoint : MethodName := ⟨RX10, "isPoint", "()Z"⟩
theorem dX10_isPoint_0 : decode cX10_isPoint 0 = .ok (.aload_n 0, 1) := by decide +kernel
theorem dX10_isPoint_1 : decode cX10_isPoint 1 = .ok (.invokevirtual 56, 3) := by decide +kernel
theorem dX10_isPoint_4 : decode cX10_isPoint 4 = .ok (.getstatic 25, 3) := by decide +kernel
theorem dX10_isPoint_7 : decode cX10_isPoint 7 = .ok (.invokevirtual 56, 3) := by decide +kernel
theorem dX10_isPoint_10 : decode cX10_isPoint 10 = .ok (.if_icmp .gt 7, 3) := by decide +kernel
theorem dX10_isPoint_13 : decode cX10_isPoint 13 = .ok (.iconst 1, 1) := by decide +kernel
theorem dX10_isPoint_14 : decode cX10_isPoint 14 = .ok (.goto 4, 3) := by decide +kernel
theorem dX10_isPoint_17 : decode cX10_isPoint 17 = .ok (.iconst 0, 1) := by decide +kernel
theorem dX10_isPoint_18 : decode cX10_isPoint 18 = .ok (.ireturn, 1) := by decide +kernel
abbrev MX10_isPoint : zT := (yX10_isPoint, cX10_isPoint, 1, (Option.some Jvm.ClassFile.FieldType.boolean), [])
theorem plX10_isPoint : zplain MX10_isPoint 0 ∧ (zcodeW MX10_isPoint ∈ lw_all ∧ Cond.initialized MX10_isPoint.1.cls ∈ lw_all) := ⟨⟨by decide +kernel, by decide +kernel⟩, q1406, q132⟩
noncomputable def f_X10_isPoint_18 (t0 : Int) (σ : zM) : Option zO :=
  zgd (z01 t0) <|
  some (0, zi t0, σ)
theorem w_X10_isPoint_18 {g : zG} {lv : Nat} {out : zO} (t0 : Int) (σ : zM) {r : zO} (h : f_X10_isPoint_18 t0 σ = some r) (hk : (fun o : zO => o = out) r) : Gj g MX10_isPoint (lv + 1) 18 [] [zi t0] σ out := by
  revert h
  unfold f_X10_isPoint_18
  refine gb_gd (fun hb => ?_)
  intro h
  cases h
  have hk : (0, zi t0, σ) = out := hk
  subst hk
  exact gj_ret (pc := 18) (t := .boolean) dX10_isPoint_18 rfl ⟨rfl, rfl⟩ (fun _ => z01E hb)
noncomputable def f_X10_isPoint (x0 : Int) (σ : zM) : Option zO :=
  zgd (zen x0) <|
  zci (f_J20_ordinal x0 σ) fun v1 σ2 =>
  zgd (zen (-9)) <|
  zci (f_J20_ordinal (-9) σ2) fun v3 σ4 =>
  if v3 < v1 then
    f_X10_isPoint_18 0 σ4
  else
    f_X10_isPoint_18 1 σ4
theorem c_X10_isPoint {g : zG} {lv : Nat} {x0 : Int} {σ : zM} {out : zO} (h : f_X10_isPoint x0 σ = some out) : Cj g (lv + 1) MX10_isPoint [zr x0] σ out := by
  refine cj_go (ls := [(0, zr x0)]) (by decide) (Nat.le_of_ble_eq_true rfl) rfl (zgen h (fun r hk => ?_))
  unfold f_X10_isPoint
  refine zst_ (gj_aload_n 0 (pc := 0) dX10_isPoint_0 rfl) ?_
  refine gb_gd (fun hb => ?_)
  refine gb_callI (pc := 1) (as := [zr x0]) (rest := []) (zCl.of (zLk_RU (M := MX10_isPoint) (x := ⟨"LassoFinder$Kind", "ordinal", "()I"⟩) plJ20_ordinal.1 ⟨rfl, rfl⟩ rfl (zRcv_enum hb) dX10_isPoint_1 q1407 q1408 q1411 q1410 q1412) plJ20_ordinal (Nat.le_of_ble_eq_true rfl) (fun h => c_J20_ordinal h)) (fun v1 σ2 => ?_)
  refine zst_ (gj_enumL (pc := 4) (i := 7) (by decide) rfl rfl dX10_isPoint_4 q1413 rfl) ?_
  refine gb_gd (fun hb => ?_)
  refine gb_callI (pc := 7) (as := [zr (-9)]) (rest := [zi v1]) (zCl.of (zLk_RU (M := MX10_isPoint) (x := ⟨"LassoFinder$Kind", "ordinal", "()I"⟩) plJ20_ordinal.1 ⟨rfl, rfl⟩ rfl (zRcv_enum hb) dX10_isPoint_7 q1407 q1408 q1411 q1410 q1412) plJ20_ordinal (Nat.le_of_ble_eq_true rfl) (fun h => c_J20_ordinal h)) (fun v3 σ4 => ?_)
  refine gb_if (gj_icmp_gt 17 (pc := 10) dX10_isPoint_10 (by decide)) ?_ ?_
  · refine zst_ (gj_iconst (pc := 17) dX10_isPoint_17 (by decide)) ?_
    refine zst_ (gj_sub [] rfl) ?_
    exact fun h => w_X10_isPoint_18 0 σ4 h hk
  · refine zst_ (gj_iconst (pc := 13) dX10_isPoint_13 (by decide)) ?_
    refine zst_ (gj_goto 18 (pc := 14) dX10_isPoint_14 (by decide)) ?_
    refine zst_ (gj_sub [] rfl) ?_
    exact fun h => w_X10_isPoint_18 1 σ4 h hk
theorem q1420 : (Jvm.Cond.code ({ cls := "LassoFinder$Kind", name := "isBasic", desc := "()Z" } : Jvm.MethodName) prog_8_method_4_code (1 : Nat) (Option.some Jvm.ClassFile.FieldType.boolean)) ∈ lw_all := lw_g (lw_at lw_m6 120 rfl) rfl
theorem q1421 : (Jvm.Cond.fieldLink "LassoFinder$Kind" (19 : Nat) "LassoFinder$Kind" "ELSE" "LLassoFinder$Kind;") ∈ lw_all := lw_g (lw_at lw_m6 121 rfl) rfl
abbrev cX10_isBasic : ByteArray := prog_8_method_4_code
def yX10_isBasic : MethodName := ⟨RX10, "isBasic", "()Z"⟩
theorem dX10_isBasic_0 : decode cX10_isBasic 0 = .ok (.aload_n 0, 1) := by decide +kernel
theorem dX10_isBasic_1 : decode cX10_isBasic 1 = .ok (.invokevirtual 56, 3) := by decide +kernel
theorem dX10_isBasic_4 : decode cX10_isBasic 4 = .ok (.getstatic 19, 3) := by decide +kernel
theorem dX10_isBasic_7 : decode cX10_isBasic 7 = .ok (.invokevirtual 56, 3) := by decide +kernel
theorem dX10_isBasic_10 : decode cX10_isBasic 10 = .ok (.if_icmp .gt 7, 3) := by decide +kernel
theorem dX10_isBasic_13 : decode cX10_isBasic 13 = .ok (.iconst 1, 1) := by decide +kernel
theorem dX10_isBasic_14 : decode cX10_isBasic 14 = .ok (.goto 4, 3) := by decide +kernel
theorem dX10_isBasic_17 : decode cX10_isBasic 17 = .ok (.iconst 0, 1) := by decide +kernel
theorem dX10_isBasic_18 : decode cX10_isBasic 18 = .ok (.ireturn, 1) := by decide +kernel
abbrev MX10_isBasic : zT := (yX10_isBasic, cX10_isBasic, 1, (Option.some Jvm.ClassFile.FieldType.boolean), [])
theorem plX10_isBasic : zplain MX10_isBasic 0 ∧ (zcodeW MX10_isBasic ∈ lw_all ∧ Cond.initialized MX10_isBasic.1.cls ∈ lw_all) := ⟨⟨by decide +kernel, by decide +kernel⟩, q1420, q132⟩
noncomputable def f_X10_isBasic_18 (t0 : Int) (σ : zM) : Option zO :=
  zgd (z01 t0) <|
  some (0, zi t0, σ)
theorem w_X10_isBasic_18 {g : zG} {lv : Nat} {out : zO} (t0 : Int) (σ : zM) {r : zO} (h : f_X10_isBasic_18 t0 σ = some r) (hk : (fun o : zO => o = out) r) : Gj g MX10_isBasic (lv + 1) 18 [] [zi t0] σ out := by
  revert h
  unfold f_X10_isBasic_18
  refine gb_gd (fun hb => ?_)
  intro h
  cases h
  have hk : (0, zi t0, σ) = out := hk
  subst hk
  exact gj_ret (pc := 18) (t := .boolean) dX10_isBasic_18 rfl ⟨rfl, rfl⟩ (fun _ => z01E hb)
noncomputable def f_X10_isBasic (x0 : Int) (σ : zM) : Option zO :=
  zgd (zen x0) <|
  zci (f_J20_ordinal x0 σ) fun v1 σ2 =>
  zgd (zen (-7)) <|
  zci (f_J20_ordinal (-7) σ2) fun v3 σ4 =>
  if v3 < v1 then
    f_X10_isBasic_18 0 σ4
  else
    f_X10_isBasic_18 1 σ4
theorem c_X10_isBasic {g : zG} {lv : Nat} {x0 : Int} {σ : zM} {out : zO} (h : f_X10_isBasic x0 σ = some out) : Cj g (lv + 1) MX10_isBasic [zr x0] σ out := by
  refine cj_go (ls := [(0, zr x0)]) (by decide) (Nat.le_of_ble_eq_true rfl) rfl (zgen h (fun r hk => ?_))
  unfold f_X10_isBasic
  refine zst_ (gj_aload_n 0 (pc := 0) dX10_isBasic_0 rfl) ?_
  refine gb_gd (fun hb => ?_)
  refine gb_callI (pc := 1) (as := [zr x0]) (rest := []) (zCl.of (zLk_RU (M := MX10_isBasic) (x := ⟨"LassoFinder$Kind", "ordinal", "()I"⟩) plJ20_ordinal.1 ⟨rfl, rfl⟩ rfl (zRcv_enum hb) dX10_isBasic_1 q1407 q1408 q1411 q1410 q1412) plJ20_ordinal (Nat.le_of_ble_eq_true rfl) (fun h => c_J20_ordinal h)) (fun v1 σ2 => ?_)
  refine zst_ (gj_enumL (pc := 4) (i := 5) (by decide) rfl rfl dX10_isBasic_4 q1421 rfl) ?_
  refine gb_gd (fun hb => ?_)
  refine gb_callI (pc := 7) (as := [zr (-7)]) (rest := [zi v1]) (zCl.of (zLk_RU (M := MX10_isBasic) (x := ⟨"LassoFinder$Kind", "ordinal", "()I"⟩) plJ20_ordinal.1 ⟨rfl, rfl⟩ rfl (zRcv_enum hb) dX10_isBasic_7 q1407 q1408 q1411 q1410 q1412) plJ20_ordinal (Nat.le_of_ble_eq_true rfl) (fun h => c_J20_ordinal h)) (fun v3 σ4 => ?_)
  refine gb_if (gj_icmp_gt 17 (pc := 10) dX10_isBasic_10 (by decide)) ?_ ?_
  · refine zst_ (gj_iconst (pc := 17) dX10_isBasic_17 (by decide)) ?_
    refine zst_ (gj_sub [] rfl) ?_
    exact fun h => w_X10_isBasic_18 0 σ4 h hk
  · refine zst_ (gj_iconst (pc := 13) dX10_isBasic_13 (by decide)) ?_
    refine zst_ (gj_goto 18 (pc := 14) dX10_isBasic_14 (by decide)) ?_
    refine zst_ (gj_sub [] rfl) ?_
    exact fun h => w_X10_isBasic_18 1 σ4 h hk
theorem q1414 : (Jvm.Cond.methodLink "LassoFinder$ModelReader" (181 : Nat) ({ cls := "LassoFinder$ModelReader", name := "at", desc := "(LLassoFinder$Statement;)J" } : Jvm.MethodName)) ∈ lw_all := lw_g (lw_at lw_m6 114 rfl) rfl
theorem q1415 : (Jvm.Cond.static ({ cls := "LassoFinder$ModelReader", name := "at", desc := "(LLassoFinder$Statement;)J" } : Jvm.MethodName)) ∈ lw_all := lw_g (lw_at lw_m6 115 rfl) rfl
theorem q1416 : (Jvm.Cond.code ({ cls := "LassoFinder$ModelReader", name := "at", desc := "(LLassoFinder$Statement;)J" } : Jvm.MethodName) prog_10_method_8_code (4 : Nat) (Option.some Jvm.ClassFile.FieldType.long)) ∈ lw_all := lw_g (lw_at lw_m6 116 rfl) rfl
theorem q1417 : (Jvm.Cond.methodLink "LassoFinder$ModelReader" (184 : Nat) ({ cls := "LassoFinder$Kind", name := "isBasic", desc := "()Z" } : Jvm.MethodName)) ∈ lw_all := lw_g (lw_at lw_m6 117 rfl) rfl
theorem q1418 : (Jvm.Cond.instanceMethod ({ cls := "LassoFinder$Kind", name := "isBasic", desc := "()Z" } : Jvm.MethodName)) ∈ lw_all := lw_g (lw_at lw_m6 118 rfl) rfl
theorem q1419 : (Jvm.Cond.selects "LassoFinder$Kind" ({ cls := "LassoFinder$Kind", name := "isBasic", desc := "()Z" } : Jvm.MethodName) ({ cls := "LassoFinder$Kind", name := "isBasic", desc := "()Z" } : Jvm.MethodName)) ∈ lw_all := lw_g (lw_at lw_m6 119 rfl) rfl
abbrev cX6_at : ByteArray := prog_10_method_8_code
def yX6_at : MethodName := ⟨RX6, "at", "(LLassoFinder$Statement;)J"⟩
theorem dX6_at_0 : decode cX6_at 0 = .ok (.aload_n 0, 1) := by decide +kernel
theorem dX6_at_1 : decode cX6_at 1 = .ok (.getfield 134, 3) := by decide +kernel
theorem dX6_at_4 : decode cX6_at 4 = .ok (.invokevirtual 184, 3) := by decide +kernel
theorem dX6_at_7 : decode cX6_at 7 = .ok (.ifCond .eq 10, 3) := by decide +kernel
theorem dX6_at_10 : decode cX6_at 10 = .ok (.lconst 1, 1) := by decide +kernel
theorem dX6_at_11 : decode cX6_at 11 = .ok (.aload_n 0, 1) := by decide +kernel
theorem dX6_at_12 : decode cX6_at 12 = .ok (.getfield 197, 3) := by decide +kernel
theorem dX6_at_15 : decode cX6_at 15 = .ok (.lshl, 1) := by decide +kernel
theorem dX6_at_16 : decode cX6_at 16 = .ok (.lreturn, 1) := by decide +kernel
theorem dX6_at_17 : decode cX6_at 17 = .ok (.lconst 0, 1) := by decide +kernel
theorem dX6_at_18 : decode cX6_at 18 = .ok (.lstore_n 1, 1) := by decide +kernel
theorem dX6_at_19 : decode cX6_at 19 = .ok (.aload_n 0, 1) := by decide +kernel
theorem dX6_at_20 : decode cX6_at 20 = .ok (.getfield 210, 3) := by decide +kernel
theorem dX6_at_23 : decode cX6_at 23 = .ok (.astore_n 3, 1) := by decide +kernel
theorem dX6_at_24 : decode cX6_at 24 = .ok (.aload_n 3, 1) := by decide +kernel
theorem dX6_at_25 : decode cX6_at 25 = .ok (.ifnull 22, 3) := by decide +kernel
theorem dX6_at_28 : decode cX6_at 28 = .ok (.lload_n 1, 1) := by decide +kernel
theorem dX6_at_29 : decode cX6_at 29 = .ok (.aload_n 3, 1) := by decide +kernel
theorem dX6_at_30 : decode cX6_at 30 = .ok (.iconst 0, 1) := by decide +kernel
theorem dX6_at_31 : decode cX6_at 31 = .ok (.invokevirtual 156, 3) := by decide +kernel
theorem dX6_at_34 : decode cX6_at 34 = .ok (.invokestatic 181, 3) := by decide +kernel
theorem dX6_at_37 : decode cX6_at 37 = .ok (.lor, 1) := by decide +kernel
theorem dX6_at_38 : decode cX6_at 38 = .ok (.lstore_n 1, 1) := by decide +kernel
theorem dX6_at_39 : decode cX6_at 39 = .ok (.aload_n 3, 1) := by decide +kernel
theorem dX6_at_40 : decode cX6_at 40 = .ok (.getfield 213, 3) := by decide +kernel
theorem dX6_at_43 : decode cX6_at 43 = .ok (.astore_n 3, 1) := by decide +kernel
theorem dX6_at_44 : decode cX6_at 44 = .ok (.goto (-20), 3) := by decide +kernel
theorem dX6_at_47 : decode cX6_at 47 = .ok (.lload_n 1, 1) := by decide +kernel
theorem dX6_at_48 : decode cX6_at 48 = .ok (.lreturn, 1) := by decide +kernel
abbrev MX6_at : zT := (yX6_at, cX6_at, 4, (Option.some Jvm.ClassFile.FieldType.long), [])
theorem plX6_at : zplain MX6_at 1 ∧ (zcodeW MX6_at ∈ lw_all ∧ Cond.initialized MX6_at.1.cls ∈ lw_all) := ⟨⟨by decide +kernel, by decide +kernel⟩, q1416, q110⟩
def RC_G_X6_at (g : zG) (lv : Nat) (rc : Nat → List Int → zM → Option zO) : Prop :=
  (∀ {x0 : Int} {σ : zM} {out : zO}, rc 0 [x0] σ = some out → Cj g lv MX6_at [zr x0] σ out) ∧ True
noncomputable def f_X6_at_47 (rc : Nat → List Int → zM → Option zO) (x1 : Int) (σ : zM) : Option zO :=
  some (0, zj x1, σ)
theorem w_X6_at_47 {g : zG} {lv : Nat} {out : zO} (rc : Nat → List Int → zM → Option zO) (hrc : RC_G_X6_at g (lv + 6) rc) (x1 : Int) (σ : zM) {r : zO} (h : f_X6_at_47 rc x1 σ = some r) (hk : (fun o : zO => o = out) r) : Gj g MX6_at (lv + 7) 47 [(1, zj x1)] [] σ out := by
  revert h
  unfold f_X6_at_47
  refine zst_ (gj_lload_n 0 (pc := 47) dX6_at_47 rfl) ?_
  intro h
  cases h
  have hk : (0, zj x1, σ) = out := hk
  subst hk
  exact gj_lret (pc := 48) dX6_at_48 rfl
noncomputable def f_X6_at_24_b (rc : Nat → List Int → zM → Option zO) (x1 x3 : Int) (σ : zM) : Option ((Int × Int × zM) ⊕ zO) :=
  if x3 = (-1) then
    (f_X6_at_47 rc x1 σ).map (fun r => (.inr r))
  else
    zgd (zis σ 12 x3) <|
    zcrT (f_X11_lead x3 0 σ) (fun n a σ2 => some (.inr (n + 1, zr a, σ2))) fun v1 σ2 =>
    zcjT (rc 0 [v1] σ2) (fun n a σ4 => some (.inr (n + 1, zr a, σ4))) fun v3 σ4 =>
    zlet ((jor x1 v3)) fun y5 =>
    (zgf σ4 1104 x3).bind fun v6 =>
    some (.inl (y5, v6, σ4))
noncomputable def f_X6_at_24 (rc : Nat → List Int → zM → Option zO) (x1 x3 : Int) (σ : zM) : Option zO :=
  zloop (fun s : Int × Int × zM => f_X6_at_24_b rc s.1 s.2.1 s.2.2) (x1, x3, σ)
theorem w_X6_at_24_b {g : zG} {lv : Nat} {out : zO} (rc : Nat → List Int → zM → Option zO) (hrc : RC_G_X6_at g (lv + 6) rc) (x1 x3 : Int) (σ : zM) {r : ((Int × Int × zM) ⊕ zO)} (h : f_X6_at_24_b rc x1 x3 σ = some r) (hk : (zKL (fun s : Int × Int × zM => Gj g MX6_at (lv + 7) 24 [(1, zj s.1), (3, zr s.2.1)] [] s.2.2 out) (fun o : zO => o = out)) r) : Gj g MX6_at (lv + 7) 24 [(1, zj x1), (3, zr x3)] [] σ out := by
  revert h
  unfold f_X6_at_24_b
  refine zst_ (gj_aload_n 1 (pc := 24) dX6_at_24 rfl) ?_
  refine gb_if (gj_ifnull 47 (pc := 25) dX6_at_25 (by decide)) ?_ ?_
  · refine zst_ (gj_sub [0] rfl) ?_
    intro h
    obtain ⟨r0, h0, rfl⟩ := zmE h
    exact w_X6_at_47 rc hrc x1 σ h0 hk
  · refine zst_ (gj_lload_n 0 (pc := 28) dX6_at_28 rfl) ?_
    refine zst_ (gj_aload_n 1 (pc := 29) dX6_at_29 rfl) ?_
    refine zst_ (gj_iconst (pc := 30) dX6_at_30 (by decide)) ?_
    refine gb_gd (fun hb => ?_)
    refine gb_callAT (pc := 31) (as := [zr x3, zi 0]) (rest := [zj x1]) (zCl.of (zLk_V (M := MX6_at) (ci := 11) (r := (RX11, TX11, 12)) plX11_lead.1 rfl rfl (zisE hb).1 (zisE hb).2 dX6_at_31 q1385 q1386 q1387 q1388) plX11_lead (Nat.le_of_ble_eq_true rfl) (fun h => c_X11_lead h)) (fun n a s0 h => by cases h; exact Or.inl ⟨rfl, hk⟩) (fun v1 σ2 => ?_)
    refine gb_callJT (pc := 34) (as := [zr v1]) (rest := [zj x1]) (zCl.of (zLk_S (M := MX6_at) plX6_at.1 rfl dX6_at_34 q1414 q1415 q110 q1416) plX6_at (Nat.le_of_ble_eq_true rfl) (fun h => hrc.1 h)) (fun n a s0 h => by cases h; exact Or.inl ⟨rfl, hk⟩) (fun v3 σ4 => ?_)
    refine zst_ (gj_lor (pc := 37) dX6_at_37) ?_
    refine gb_let (fun y5 => ?_)
    refine zst_ (gj_lstore_n (pc := 38) (ls' := [(1, zj y5), (3, zr x3)]) dX6_at_38 (by decide) rfl) ?_
    refine zst_ (gj_aload_n 1 (pc := 39) dX6_at_39 rfl) ?_
    refine gb_getNe (pc := 40) fl1104 dX6_at_40 q1163 (Or.inl rfl) (fun v6 => ?_)
    refine zst_ (gj_astore_n (pc := 43) (ls' := [(3, zr v6), (1, zj y5)]) dX6_at_43 (by decide) rfl) ?_
    refine zst_ (gj_goto 24 (pc := 44) dX6_at_44 (by decide)) ?_
    refine zst_ (gj_sub [1, 0] rfl) ?_
    intro h
    cases h
    exact hk
theorem w_X6_at_24 {g : zG} {lv : Nat} {out : zO} (rc : Nat → List Int → zM → Option zO) (hrc : RC_G_X6_at g (lv + 6) rc) (x1 x3 : Int) (σ : zM) {r : zO} (h : f_X6_at_24 rc x1 x3 σ = some r) (hk : (fun o : zO => o = out) r) : Gj g MX6_at (lv + 7) 24 [(1, zj x1), (3, zr x3)] [] σ out :=
  gj_loop (P := (fun s : Int × Int × zM => Gj g MX6_at (lv + 7) 24 [(1, zj s.1), (3, zr s.2.1)] [] s.2.2 out)) (fun s x hb hx => w_X6_at_24_b rc hrc s.1 s.2.1 s.2.2 hb hx) h hk
noncomputable def f_X6_at (rc : Nat → List Int → zM → Option zO) (x0 : Int) (σ : zM) : Option zO :=
  (zgf σ 1100 x0).bind fun v1 =>
  zgd (zen v1) <|
  zci (f_X10_isBasic v1 σ) fun v2 σ3 =>
  if v2 = 0 then
    (zgf σ3 1103 x0).bind fun v4 =>
    f_X6_at_24 rc 0 v4 σ3
  else
    (zgf σ3 1109 x0).bind fun v5 =>
    some (0, zj (jshl 1 v5), σ3)
theorem c_X6_at {g : zG} {lv : Nat} {rc : Nat → List Int → zM → Option zO} (hrc : RC_G_X6_at g (lv + 6) rc) {x0 : Int} {σ : zM} {out : zO} (h : f_X6_at rc x0 σ = some out) : Cj g (lv + 7) MX6_at [zr x0] σ out := by
  refine cj_go (ls := [(0, zr x0)]) (by decide) (Nat.le_of_ble_eq_true rfl) rfl (zgen h (fun r hk => ?_))
  unfold f_X6_at
  refine zst_ (gj_aload_n 0 (pc := 0) dX6_at_0 rfl) ?_
  refine gb_getNe (pc := 1) fl1100 dX6_at_1 q1155 (Or.inl rfl) (fun v1 => ?_)
  refine gb_gd (fun hb => ?_)
  refine gb_callI (pc := 4) (as := [zr v1]) (rest := []) (zCl.of (zLk_R (M := MX6_at) plX10_isBasic.1 rfl (zRcv_enum hb) dX6_at_4 q1417 q1418 q1419 q1420) plX10_isBasic (Nat.le_of_ble_eq_true rfl) (fun h => c_X10_isBasic h)) (fun v2 σ3 => ?_)
  refine gb_if (gj_if_eq 17 (pc := 7) dX6_at_7 (by decide)) ?_ ?_
  · refine zst_ (gj_lconst0 (pc := 17) dX6_at_17) ?_
    refine zst_ (gj_lstore_n (pc := 18) (ls' := [(1, zj 0), (0, zr x0)]) dX6_at_18 (by decide) rfl) ?_
    refine zst_ (gj_aload_n 1 (pc := 19) dX6_at_19 rfl) ?_
    refine gb_getNe (pc := 20) fl1103 dX6_at_20 q1161 (Or.inl rfl) (fun v4 => ?_)
    refine zst_ (gj_astore_n (pc := 23) (ls' := [(3, zr v4), (1, zj 0), (0, zr x0)]) dX6_at_23 (by decide) rfl) ?_
    refine zst_ (gj_sub [1, 0] rfl) ?_
    exact fun h => w_X6_at_24 rc hrc 0 v4 σ3 h hk
  · refine zst_ (gj_lconst1 (pc := 10) dX6_at_10) ?_
    refine zst_ (gj_aload_n 0 (pc := 11) dX6_at_11 rfl) ?_
    refine gb_getNe (pc := 12) fl1109 dX6_at_12 q1175 (Or.inl rfl) (fun v5 => ?_)
    refine zst_ (gj_lshl (pc := 15) dX6_at_15) ?_
    intro h
    cases h
    have hk : (0, zj (jshl 1 v5), σ3) = out := hk
    subst hk
    exact gj_lret (pc := 16) dX6_at_16 rfl
noncomputable def f_G_X6_at : Nat → Nat → List Int → zM → Option zO
  | 0, _, _, _ => none
  | d + 1, tg, as, σ => match tg, as with
    | 0, [x0] => f_X6_at (f_G_X6_at d) x0 σ
    | _, _ => none
theorem rc_G_X6_at (g : zG) : ∀ (d : Nat) {lv : Nat}, RC_G_X6_at g (lv + 6 + d) (f_G_X6_at d)
  | 0, lv => ⟨(fun h => by cases h), trivial⟩
  | d + 1, lv => by
    have ih := rc_G_X6_at g d (lv := lv)
    rw [show lv + 6 + d = lv + d + 6 by omega] at ih
    rw [show lv + 6 + (d + 1) = lv + d + 7 by omega]
    exact ⟨fun h => c_X6_at (lv := lv + d) ih h, trivial⟩
theorem c_G_X6_at_0 {g : zG} {lv : Nat} {x0 : Int} {σ : zM} {out : zO} (h : f_G_X6_at 40 0 [x0] σ = some out) : Cj g (lv + 46) MX6_at [zr x0] σ out := (rc_G_X6_at g 40 (lv := lv)).1 h

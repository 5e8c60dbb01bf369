set_option maxRecDepth 100000
theorem q1855 : (Jvm.Cond.codeWith ({ cls := "LassoFinderLaw", name := "truth", desc := "(LLassoFinder;I[J)I" } : Jvm.MethodName) method_9_code (4 : Nat) (Option.some Jvm.ClassFile.FieldType.int) [((0 : Nat), (16 : Nat), (19 : Nat), (20 : Nat)), ((0 : Nat), (16 : Nat), (22 : Nat), (13 : Nat))]) ∈ lw_all := lw_g (lw_at lw_m8 75 rfl) rfl
theorem q1856 : (Jvm.Cond.methodLink "LassoFinderLaw" (39 : Nat) ({ cls := "LassoFinder", name := "truth", desc := "(I)Z" } : Jvm.MethodName)) ∈ lw_all := lw_g (lw_at lw_m8 76 rfl) rfl
theorem q1857 : (Jvm.Cond.instanceMethod ({ cls := "LassoFinder", name := "truth", desc := "(I)Z" } : Jvm.MethodName)) ∈ lw_all := lw_g (lw_at lw_m8 77 rfl) rfl
theorem q1858 : (Jvm.Cond.selects "LassoFinder" ({ cls := "LassoFinder", name := "truth", desc := "(I)Z" } : Jvm.MethodName) ({ cls := "LassoFinder", name := "truth", desc := "(I)Z" } : Jvm.MethodName)) ∈ lw_all := lw_g (lw_at lw_m8 78 rfl) rfl
abbrev cX0_truth : ByteArray := method_9_code
def yX0_truth : MethodName := ⟨RX0, "truth", "(LLassoFinder;I[J)I"⟩
theorem dX0_truth_0 : decode cX0_truth 0 = .ok (.aload_n 2, 1) := by decide +kernel
theorem dX0_truth_1 : decode cX0_truth 1 = .ok (.iconst 0, 1) := by decide +kernel
theorem dX0_truth_2 : decode cX0_truth 2 = .ok (.aload_n 0, 1) := by decide +kernel
theorem dX0_truth_3 : decode cX0_truth 3 = .ok (.iload_n 1, 1) := by decide +kernel
theorem dX0_truth_4 : decode cX0_truth 4 = .ok (.invokevirtual 39, 3) := by decide +kernel
theorem dX0_truth_7 : decode cX0_truth 7 = .ok (.ifCond .eq 7, 3) := by decide +kernel
theorem dX0_truth_10 : decode cX0_truth 10 = .ok (.lconst 1, 1) := by decide +kernel
theorem dX0_truth_11 : decode cX0_truth 11 = .ok (.goto 4, 3) := by decide +kernel
theorem dX0_truth_14 : decode cX0_truth 14 = .ok (.lconst 0, 1) := by decide +kernel
theorem dX0_truth_15 : decode cX0_truth 15 = .ok (.lastore, 1) := by decide +kernel
theorem dX0_truth_16 : decode cX0_truth 16 = .ok (.goto 9, 3) := by decide +kernel
theorem dX0_truth_19 : decode cX0_truth 19 = .ok (.astore_n 3, 1) := by decide +kernel
theorem dX0_truth_20 : decode cX0_truth 20 = .ok (.iconst 1, 1) := by decide +kernel
theorem dX0_truth_21 : decode cX0_truth 21 = .ok (.ireturn, 1) := by decide +kernel
theorem dX0_truth_22 : decode cX0_truth 22 = .ok (.astore_n 3, 1) := by decide +kernel
theorem dX0_truth_23 : decode cX0_truth 23 = .ok (.iconst 2, 1) := by decide +kernel
theorem dX0_truth_24 : decode cX0_truth 24 = .ok (.ireturn, 1) := by decide +kernel
theorem dX0_truth_25 : decode cX0_truth 25 = .ok (.iconst 0, 1) := by decide +kernel
theorem dX0_truth_26 : decode cX0_truth 26 = .ok (.ireturn, 1) := by decide +kernel
abbrev MX0_truth : zT := (yX0_truth, cX0_truth, 4, (Option.some Jvm.ClassFile.FieldType.int), [(0, 16, 19, 20), (0, 16, 22, 13)])
theorem plX0_truth : zplain MX0_truth 3 ∧ (zcodeW MX0_truth ∈ lw_all ∧ Cond.initialized MX0_truth.1.cls ∈ lw_all) := ⟨⟨by decide +kernel, by decide +kernel⟩, q1855, q100⟩
noncomputable def f_X0_truth_22 (t0 : Int) (σ : zM) : Option zO :=
  some (0, zi 2, σ)
theorem w_X0_truth_22 {g : zG} {lv : Nat} {out : zO} (t0 : Int) (σ : zM) {r : zO} (h : f_X0_truth_22 t0 σ = some r) (hk : (fun o : zO => o = out) r) : Gj g MX0_truth (lv + 44) 22 [] [zr t0] σ out := by
  revert h
  unfold f_X0_truth_22
  refine zst_ (gj_astore_n (pc := 22) (ls' := [(3, zr t0)]) dX0_truth_22 (by decide) rfl) ?_
  refine zst_ (gj_iconst (pc := 23) dX0_truth_23 (by decide)) ?_
  intro h
  cases h
  have hk : (0, zi 2, σ) = out := hk
  subst hk
  exact gj_ret (pc := 24) (t := .int) dX0_truth_24 rfl ⟨rfl, rfl⟩ (fun h => h)
noncomputable def f_X0_truth_19 (t0 : Int) (σ : zM) : Option zO :=
  some (0, zi 1, σ)
theorem w_X0_truth_19 {g : zG} {lv : Nat} {out : zO} (t0 : Int) (σ : zM) {r : zO} (h : f_X0_truth_19 t0 σ = some r) (hk : (fun o : zO => o = out) r) : Gj g MX0_truth (lv + 44) 19 [] [zr t0] σ out := by
  revert h
  unfold f_X0_truth_19
  refine zst_ (gj_astore_n (pc := 19) (ls' := [(3, zr t0)]) dX0_truth_19 (by decide) rfl) ?_
  refine zst_ (gj_iconst (pc := 20) dX0_truth_20 (by decide)) ?_
  intro h
  cases h
  have hk : (0, zi 1, σ) = out := hk
  subst hk
  exact gj_ret (pc := 21) (t := .int) dX0_truth_21 rfl ⟨rfl, rfl⟩ (fun h => h)
noncomputable def f_X0_truth_15 (t0 t1 t2 : Int) (σ : zM) : Option zO :=
  (zpa σ 102 t2 t1 t0).bind fun σ1 =>
  some (0, zi 0, σ1)
theorem w_X0_truth_15 {g : zG} {lv : Nat} {out : zO} (t0 t1 t2 : Int) (σ : zM) {r : zO} (h : f_X0_truth_15 t0 t1 t2 σ = some r) (hk : (fun o : zO => o = out) r) : Gj g MX0_truth (lv + 44) 15 [] [zj t0, zi t1, zr t2] σ out := by
  revert h
  unfold f_X0_truth_15
  refine gb_last (pc := 15) dX0_truth_15 (fun σ1 => ?_)
  refine zst_ (gj_goto 25 (pc := 16) dX0_truth_16 (by decide)) ?_
  refine zst_ (gj_iconst (pc := 25) dX0_truth_25 (by decide)) ?_
  intro h
  cases h
  have hk : (0, zi 0, σ1) = out := hk
  subst hk
  exact gj_ret (pc := 26) (t := .int) dX0_truth_26 rfl ⟨rfl, rfl⟩ (fun h => h)
noncomputable def f_X0_truth (x0 x1 x2 : Int) (σ : zM) : Option zO :=
  zgd (zis σ 2 x0) <|
  zciT (f_X1_truth x0 x1 σ) (fun n a σ2 => if n = 1 then f_X0_truth_19 a σ2 else if n = 0 then f_X0_truth_22 a σ2 else none) fun v1 σ2 =>
  if v1 = 0 then
    f_X0_truth_15 0 0 x2 σ2
  else
    f_X0_truth_15 1 0 x2 σ2
theorem c_X0_truth {g : zG} {lv : Nat} {x0 x1 x2 : Int} {σ : zM} {out : zO} (h : f_X0_truth x0 x1 x2 σ = some out) : Cj g (lv + 44) MX0_truth [zr x0, zi x1, zr x2] σ out := by
  refine cj_go (ls := [(0, zr x0), (1, zi x1), (2, zr x2)]) (by decide) (Nat.le_of_ble_eq_true rfl) rfl (zgen h (fun r hk => ?_))
  unfold f_X0_truth
  refine zst_ (gj_aload_n 2 (pc := 0) dX0_truth_0 rfl) ?_
  refine zst_ (gj_iconst (pc := 1) dX0_truth_1 (by decide)) ?_
  refine zst_ (gj_aload_n 0 (pc := 2) dX0_truth_2 rfl) ?_
  refine zst_ (gj_iload_n 1 (pc := 3) dX0_truth_3 rfl) ?_
  refine gb_gd (fun hb => ?_)
  refine gb_callIT (pc := 4) (as := [zr x0, zi x1]) (rest := [zi 0, zr x2]) (zCl.of (zLk_V (M := MX0_truth) (ci := 1) (r := (RX1, TX1, 12)) plX1_truth.1 rfl rfl (zisE hb).1 (zisE hb).2 dX0_truth_4 q1856 q1857 q1858 q1859) plX1_truth (Nat.le_of_ble_eq_true rfl) (fun h => c_X1_truth h)) (fun n a s0 => gb_hn (fun h => Or.inr ⟨[], (0, 16, 19, 20), [(0, 16, 22, 13)], rfl, (fun z hz => by cases hz), ⟨by decide, by decide⟩, by decide, q1528, gj_sub [] rfl (w_X0_truth_19 a s0 h hk)⟩) (gb_hn (fun h => Or.inr ⟨[(0, 16, 19, 20)], (0, 16, 22, 13), [], rfl, (List.forall_mem_cons.mpr ⟨Or.inr ⟨by decide, 52, by decide, by decide, by decide, q1528⟩, (fun z hz => by cases hz)⟩), ⟨by decide, by decide⟩, by decide, q956, gj_sub [] rfl (w_X0_truth_22 a s0 h hk)⟩) ((fun h => by cases h)))) (fun v1 σ2 => ?_)
  refine gb_if (gj_if_eq 14 (pc := 7) dX0_truth_7 (by decide)) ?_ ?_
  · refine zst_ (gj_lconst0 (pc := 14) dX0_truth_14) ?_
    refine zst_ (gj_sub [] rfl) ?_
    exact fun h => w_X0_truth_15 0 0 x2 σ2 h hk
  · refine zst_ (gj_lconst1 (pc := 10) dX0_truth_10) ?_
    refine zst_ (gj_goto 15 (pc := 11) dX0_truth_11 (by decide)) ?_
    refine zst_ (gj_sub [] rfl) ?_
    exact fun h => w_X0_truth_15 1 0 x2 σ2 h hk
theorem q161 : (Jvm.Cond.code ({ cls := "java/lang/AbstractStringBuilder", name := "<init>", desc := "(I)V" } : Jvm.MethodName) prog_24_method_2_code (2 : Nat) (Option.none : Option Jvm.ClassFile.FieldType)) ∈ lw_all := lw_g (lw_at lw_m1 61 rfl) rfl
theorem q162 : (Jvm.Cond.methodLink "java/lang/AbstractStringBuilder" (3 : Nat) ({ cls := "java/lang/Object", name := "<init>", desc := "()V" } : Jvm.MethodName)) ∈ lw_all := lw_g (lw_at lw_m1 62 rfl) rfl
abbrev cJ0_init : ByteArray := prog_24_method_2_code
def yJ0_init : MethodName := ⟨RJ0, "<init>", "(I)V"⟩
theorem dJ0_init_0 : decode cJ0_init 0 = .ok (.aload_n 0, 1) := by decide +kernel
theorem dJ0_init_1 : decode cJ0_init 1 = .ok (.invokespecial 3, 3) := by decide +kernel
theorem dJ0_init_4 : decode cJ0_init 4 = .ok (.getstatic 18, 3) := by decide +kernel
theorem dJ0_init_7 : decode cJ0_init 7 = .ok (.ifCond .eq 18, 3) := by decide +kernel
theorem dJ0_init_10 : decode cJ0_init 10 = .ok (.aload_n 0, 1) := by decide +kernel
theorem dJ0_init_11 : decode cJ0_init 11 = .ok (.iload_n 1, 1) := by decide +kernel
theorem dJ0_init_12 : decode cJ0_init 12 = .ok (.newarray .byte, 2) := by decide +kernel
theorem dJ0_init_14 : decode cJ0_init 14 = .ok (.putfield 15, 3) := by decide +kernel
theorem dJ0_init_17 : decode cJ0_init 17 = .ok (.aload_n 0, 1) := by decide +kernel
theorem dJ0_init_18 : decode cJ0_init 18 = .ok (.iconst 0, 1) := by decide +kernel
theorem dJ0_init_19 : decode cJ0_init 19 = .ok (.putfield 22, 3) := by decide +kernel
theorem dJ0_init_22 : decode cJ0_init 22 = .ok (.goto 16, 3) := by decide +kernel
theorem dJ0_init_25 : decode cJ0_init 25 = .ok (.aload_n 0, 1) := by decide +kernel
theorem dJ0_init_26 : decode cJ0_init 26 = .ok (.iload_n 1, 1) := by decide +kernel
theorem dJ0_init_27 : decode cJ0_init 27 = .ok (.invokestatic 26, 3) := by decide +kernel
theorem dJ0_init_30 : decode cJ0_init 30 = .ok (.putfield 15, 3) := by decide +kernel
theorem dJ0_init_33 : decode cJ0_init 33 = .ok (.aload_n 0, 1) := by decide +kernel
theorem dJ0_init_34 : decode cJ0_init 34 = .ok (.iconst 1, 1) := by decide +kernel
theorem dJ0_init_35 : decode cJ0_init 35 = .ok (.putfield 22, 3) := by decide +kernel
theorem dJ0_init_38 : decode cJ0_init 38 = .ok (.return_, 1) := by decide +kernel
abbrev MJ0_init : zT := (yJ0_init, cJ0_init, 2, (Option.none : Option Jvm.ClassFile.FieldType), [])
theorem plJ0_init : zplain MJ0_init 1 ∧ (zcodeW MJ0_init ∈ lw_all ∧ Cond.initialized MJ0_init.1.cls ∈ lw_all) := ⟨⟨by decide +kernel, by decide +kernel⟩, q161, q102⟩
noncomputable def f_J0_init_38 (σ : zM) : Option zO :=
  some (0, ((3, 0) : zV), σ)
theorem w_J0_init_38 {g : zG} {lv : Nat} {out : zO} (σ : zM) {r : zO} (h : f_J0_init_38  σ = some r) (hk : (fun o : zO => o = out) r) : Gj g MJ0_init (lv + 1) 38 [] [] σ out := by
  revert h
  unfold f_J0_init_38
  intro h
  cases h
  have hk : (0, ((3, 0) : zV), σ) = out := hk
  subst hk
  exact gj_vret (pc := 38) dJ0_init_38 rfl
noncomputable def f_J0_init (x0 x1 : Int) (σ : zM) : Option zO :=
  zgd (decide (0 ≤ x0)) <|
  if (1 : Int) = 0 then
    none
  else
    (znA σ 104 x1).bind fun σ1 =>
    (zpf σ1 2000 x0 (↑(zN σ) : Int)).bind fun σ2 =>
    zgd (zby 0) <|
    (zpf σ2 2001 x0 0).bind fun σ3 =>
    f_J0_init_38 σ3
theorem c_J0_init {g : zG} {lv : Nat} {x0 x1 : Int} {σ : zM} {out : zO} (h : f_J0_init x0 x1 σ = some out) : Cj g (lv + 1) MJ0_init [zr x0, zi x1] σ out := by
  refine cj_go (ls := [(0, zr x0), (1, zi x1)]) (by decide) (Nat.le_of_ble_eq_true rfl) rfl (zgen h (fun r hk => ?_))
  unfold f_J0_init
  refine zst_ (gj_aload_n 0 (pc := 0) dJ0_init_0 rfl) ?_
  refine gb_gd (fun hb => ?_)
  refine zst_ (gj_obj (pc := 1) (of_decide_eq_true hb) dJ0_init_1 q162 q152 q153 (by omega) (Nat.le_of_ble_eq_true rfl)) ?_
  refine zst_ (gj_compact (pc := 4) dJ0_init_4 q163) ?_
  refine gb_if (gj_if_eq 25 (pc := 7) dJ0_init_7 (by decide)) ?_ ?_
  · refine zst_ (gj_aload_n 0 (pc := 25) dJ0_init_25 rfl) ?_
    refine zst_ (gj_iload_n 1 (pc := 26) dJ0_init_26 rfl) ?_
    exact (fun h => by cases h)
  · refine zst_ (gj_aload_n 0 (pc := 10) dJ0_init_10 rfl) ?_
    refine zst_ (gj_iload_n 1 (pc := 11) dJ0_init_11 rfl) ?_
    refine gb_newa (pc := 12) (k := 104) ⟨by decide, by decide⟩ rfl dJ0_init_12 q186 (fun σ1 => ?_)
    refine gb_put (pc := 14) fl2000 fr2000 dJ0_init_14 q172 (Or.inl rfl) (fun σ2 => ?_)
    refine zst_ (gj_aload_n 0 (pc := 17) dJ0_init_17 rfl) ?_
    refine zst_ (gj_iconst (pc := 18) dJ0_init_18 (by decide)) ?_
    refine gb_gd (fun hb => ?_)
    refine gb_put (pc := 19) fl2001 (fr2001 hb) dJ0_init_19 q173 (Or.inl rfl) (fun σ3 => ?_)
    refine zst_ (gj_goto 38 (pc := 22) dJ0_init_22 (by decide)) ?_
    refine zst_ (gj_sub [] rfl) ?_
    exact fun h => w_J0_init_38 σ3 h hk
theorem q158 : (Jvm.Cond.code ({ cls := "java/lang/StringBuilder", name := "<init>", desc := "()V" } : Jvm.MethodName) prog_38_method_1_code (1 : Nat) (Option.none : Option Jvm.ClassFile.FieldType)) ∈ lw_all := lw_g (lw_at lw_m1 58 rfl) rfl
theorem q159 : (Jvm.Cond.methodLink "java/lang/StringBuilder" (1 : Nat) ({ cls := "java/lang/AbstractStringBuilder", name := "<init>", desc := "(I)V" } : Jvm.MethodName)) ∈ lw_all := lw_g (lw_at lw_m1 59 rfl) rfl
theorem q160 : (Jvm.Cond.instanceMethod ({ cls := "java/lang/AbstractStringBuilder", name := "<init>", desc := "(I)V" } : Jvm.MethodName)) ∈ lw_all := lw_g (lw_at lw_m1 60 rfl) rfl
abbrev cJ1_init : ByteArray := prog_38_method_1_code
def yJ1_init : MethodName := ⟨RJ1, "<init>", "()V"⟩
theorem dJ1_init_0 : decode cJ1_init 0 = .ok (.aload_n 0, 1) := by decide +kernel
theorem dJ1_init_1 : decode cJ1_init 1 = .ok (.bipush 16, 2) := by decide +kernel
theorem dJ1_init_3 : decode cJ1_init 3 = .ok (.invokespecial 1, 3) := by decide +kernel
theorem dJ1_init_6 : decode cJ1_init 6 = .ok (.return_, 1) := by decide +kernel
abbrev MJ1_init : zT := (yJ1_init, cJ1_init, 1, (Option.none : Option Jvm.ClassFile.FieldType), [])
theorem plJ1_init : zplain MJ1_init 0 ∧ (zcodeW MJ1_init ∈ lw_all ∧ Cond.initialized MJ1_init.1.cls ∈ lw_all) := ⟨⟨by decide +kernel, by decide +kernel⟩, q158, q103⟩
noncomputable def f_J1_init (x0 : Int) (σ : zM) : Option zO :=
  zgd (decide (0 ≤ x0)) <|
  zcv (f_J0_init x0 16 σ) fun σ1 =>
  some (0, ((3, 0) : zV), σ1)
theorem c_J1_init {g : zG} {lv : Nat} {x0 : Int} {σ : zM} {out : zO} (h : f_J1_init x0 σ = some out) : Cj g (lv + 2) MJ1_init [zr x0] σ out := by
  refine cj_go (ls := [(0, zr x0)]) (by decide) (Nat.le_of_ble_eq_true rfl) rfl (zgen h (fun r hk => ?_))
  unfold f_J1_init
  refine zst_ (gj_aload_n 0 (pc := 0) dJ1_init_0 rfl) ?_
  refine zst_ (gj_bipush (pc := 1) dJ1_init_1 ⟨rfl, by decide⟩) ?_
  refine gb_gd (fun hb => ?_)
  refine gb_callV (pc := 3) (as := [zr x0, zi 16]) (rest := []) (zCl.of (zLk_I (M := MJ1_init) plJ0_init.1 rfl (of_decide_eq_true hb) rfl rfl dJ1_init_3 q159 q160 q161) plJ0_init (Nat.le_of_ble_eq_true rfl) (fun h => c_J0_init h)) (fun σ1 => ?_)
  intro h
  cases h
  have hk : (0, ((3, 0) : zV), σ1) = out := hk
  subst hk
  exact gj_vret (pc := 6) dJ1_init_6 rfl
theorem q201 : (Jvm.Cond.code ({ cls := "LassoFinder$Moment", name := "<init>", desc := "()V" } : Jvm.MethodName) prog_11_method_1_code (1 : Nat) (Option.none : Option Jvm.ClassFile.FieldType)) ∈ lw_all := lw_g (lw_at lw_m1 101 rfl) rfl
theorem q202 : (Jvm.Cond.methodLink "LassoFinder$Moment" (3 : Nat) ({ cls := "java/lang/Object", name := "<init>", desc := "()V" } : Jvm.MethodName)) ∈ lw_all := lw_g (lw_at lw_m1 102 rfl) rfl
theorem q203 : (Jvm.Cond.classLink "LassoFinder$Moment" (15 : Nat) "[[I") ∈ lw_all := lw_g (lw_at lw_m1 103 rfl) rfl
theorem q204 : (Jvm.Cond.arrayOver (Jvm.ClassFile.FieldType.array Jvm.ClassFile.FieldType.int)) ∈ lw_tbl := lw_at lw_m1 104 rfl
abbrev cX3_init : ByteArray := prog_11_method_1_code
def yX3_init : MethodName := ⟨RX3, "<init>", "()V"⟩
theorem dX3_init_0 : decode cX3_init 0 = .ok (.aload_n 0, 1) := by decide +kernel
theorem dX3_init_1 : decode cX3_init 1 = .ok (.invokespecial 3, 3) := by decide +kernel
theorem dX3_init_4 : decode cX3_init 4 = .ok (.aload_n 0, 1) := by decide +kernel
theorem dX3_init_5 : decode cX3_init 5 = .ok (.bipush 8, 2) := by decide +kernel
theorem dX3_init_7 : decode cX3_init 7 = .ok (.newarray .int, 2) := by decide +kernel
theorem dX3_init_9 : decode cX3_init 9 = .ok (.putfield 9, 3) := by decide +kernel
theorem dX3_init_12 : decode cX3_init 12 = .ok (.aload_n 0, 1) := by decide +kernel
theorem dX3_init_13 : decode cX3_init 13 = .ok (.bipush 8, 2) := by decide +kernel
theorem dX3_init_15 : decode cX3_init 15 = .ok (.iconst 3, 1) := by decide +kernel
theorem dX3_init_16 : decode cX3_init 16 = .ok (.multianewarray 15 2, 4) := by decide +kernel
theorem dX3_init_20 : decode cX3_init 20 = .ok (.putfield 17, 3) := by decide +kernel
theorem dX3_init_23 : decode cX3_init 23 = .ok (.aload_n 0, 1) := by decide +kernel
theorem dX3_init_24 : decode cX3_init 24 = .ok (.iconst 4, 1) := by decide +kernel
theorem dX3_init_25 : decode cX3_init 25 = .ok (.newarray .int, 2) := by decide +kernel
theorem dX3_init_27 : decode cX3_init 27 = .ok (.putfield 20, 3) := by decide +kernel
theorem dX3_init_30 : decode cX3_init 30 = .ok (.return_, 1) := by decide +kernel
abbrev MX3_init : zT := (yX3_init, cX3_init, 1, (Option.none : Option Jvm.ClassFile.FieldType), [])
theorem plX3_init : zplain MX3_init 0 ∧ (zcodeW MX3_init ∈ lw_all ∧ Cond.initialized MX3_init.1.cls ∈ lw_all) := ⟨⟨by decide +kernel, by decide +kernel⟩, q201, q107⟩
noncomputable def f_X3_init (x0 : Int) (σ : zM) : Option zO :=
  zgd (decide (0 ≤ x0)) <|
  (znA σ 101 8).bind fun σ1 =>
  (zpf σ1 300 x0 (↑(zN σ) : Int)).bind fun σ2 =>
  (znG σ2).bind fun σ3 =>
  (zpf σ3 301 x0 (↑(zN σ2) : Int)).bind fun σ4 =>
  (znA σ4 101 4).bind fun σ5 =>
  (zpf σ5 302 x0 (↑(zN σ4) : Int)).bind fun σ6 =>
  some (0, ((3, 0) : zV), σ6)
theorem c_X3_init {g : zG} {lv : Nat} {x0 : Int} {σ : zM} {out : zO} (h : f_X3_init x0 σ = some out) : Cj g (lv + 1) MX3_init [zr x0] σ out := by
  refine cj_go (ls := [(0, zr x0)]) (by decide) (Nat.le_of_ble_eq_true rfl) rfl (zgen h (fun r hk => ?_))
  unfold f_X3_init
  refine zst_ (gj_aload_n 0 (pc := 0) dX3_init_0 rfl) ?_
  refine gb_gd (fun hb => ?_)
  refine zst_ (gj_obj (pc := 1) (of_decide_eq_true hb) dX3_init_1 q202 q152 q153 (by omega) (Nat.le_of_ble_eq_true rfl)) ?_
  refine zst_ (gj_aload_n 0 (pc := 4) dX3_init_4 rfl) ?_
  refine zst_ (gj_bipush (pc := 5) dX3_init_5 ⟨rfl, by decide⟩) ?_
  refine gb_newa (pc := 7) (k := 101) ⟨by decide, by decide⟩ rfl dX3_init_7 q228 (fun σ1 => ?_)
  refine gb_putFi (pc := 9) fl300 rfl rfl fr300 dX3_init_9 q205 (Or.inl rfl) (fun σ2 => ?_)
  refine zst_ (gj_aload_n 0 (pc := 12) dX3_init_12 rfl) ?_
  refine zst_ (gj_bipush (pc := 13) dX3_init_13 ⟨rfl, by decide⟩) ?_
  refine zst_ (gj_iconst (pc := 15) dX3_init_15 (by decide)) ?_
  refine gb_multi (pc := 16) dX3_init_16 q203 q204 (fun σ3 => ?_)
  refine gb_putFi (pc := 20) fl301 rfl rfl fr301 dX3_init_20 q209 (Or.inl rfl) (fun σ4 => ?_)
  refine zst_ (gj_aload_n 0 (pc := 23) dX3_init_23 rfl) ?_
  refine zst_ (gj_iconst (pc := 24) dX3_init_24 (by decide)) ?_
  refine gb_newa (pc := 25) (k := 101) ⟨by decide, by decide⟩ rfl dX3_init_25 q228 (fun σ5 => ?_)
  refine gb_putFi (pc := 27) fl302 rfl rfl fr302 dX3_init_27 q212 (Or.inl rfl) (fun σ6 => ?_)
  intro h
  cases h
  have hk : (0, ((3, 0) : zV), σ6) = out := hk
  subst hk
  exact gj_vret (pc := 30) dX3_init_30 rfl
theorem q196 : (Jvm.Cond.arrayOver (Jvm.ClassFile.FieldType.object "LassoFinder$Statement")) ∈ lw_tbl := lw_at lw_m1 96 rfl
theorem q233 : (Jvm.Cond.code ({ cls := "LassoFinder$Routine", name := "<init>", desc := "()V" } : Jvm.MethodName) prog_17_method_1_code (1 : Nat) (Option.none : Option Jvm.ClassFile.FieldType)) ∈ lw_all := lw_g (lw_at lw_m1 133 rfl) rfl
theorem q234 : (Jvm.Cond.methodLink "LassoFinder$Routine" (3 : Nat) ({ cls := "java/lang/Object", name := "<init>", desc := "()V" } : Jvm.MethodName)) ∈ lw_all := lw_g (lw_at lw_m1 134 rfl) rfl
theorem q235 : (Jvm.Cond.classLink "LassoFinder$Routine" (9 : Nat) "LassoFinder$Statement") ∈ lw_all := lw_g (lw_at lw_m1 135 rfl) rfl
theorem q246 : (Jvm.Cond.fieldLink "LassoFinder$Routine" (17 : Nat) "LassoFinder$Routine" "marks" "[I") ∈ lw_all := lw_g (lw_at lw_m1 146 rfl) rfl
theorem q267 : (Jvm.Cond.arrayClass Jvm.ClassFile.FieldType.long) ∈ lw_all := lw_g (lw_at lw_m1 167 rfl) rfl
abbrev cX4_init : ByteArray := prog_17_method_1_code
def yX4_init : MethodName := ⟨RX4, "<init>", "()V"⟩
theorem dX4_init_0 : decode cX4_init 0 = .ok (.aload_n 0, 1) := by decide +kernel
theorem dX4_init_1 : decode cX4_init 1 = .ok (.invokespecial 3, 3) := by decide +kernel
theorem dX4_init_4 : decode cX4_init 4 = .ok (.aload_n 0, 1) := by decide +kernel
theorem dX4_init_5 : decode cX4_init 5 = .ok (.bipush 8, 2) := by decide +kernel
theorem dX4_init_7 : decode cX4_init 7 = .ok (.anewarray 9, 3) := by decide +kernel
theorem dX4_init_10 : decode cX4_init 10 = .ok (.putfield 11, 3) := by decide +kernel
theorem dX4_init_13 : decode cX4_init 13 = .ok (.aload_n 0, 1) := by decide +kernel
theorem dX4_init_14 : decode cX4_init 14 = .ok (.bipush 8, 2) := by decide +kernel
theorem dX4_init_16 : decode cX4_init 16 = .ok (.newarray .int, 2) := by decide +kernel
theorem dX4_init_18 : decode cX4_init 18 = .ok (.putfield 17, 3) := by decide +kernel
theorem dX4_init_21 : decode cX4_init 21 = .ok (.aload_n 0, 1) := by decide +kernel
theorem dX4_init_22 : decode cX4_init 22 = .ok (.bipush 31, 2) := by decide +kernel
theorem dX4_init_24 : decode cX4_init 24 = .ok (.newarray .long, 2) := by decide +kernel
theorem dX4_init_26 : decode cX4_init 26 = .ok (.putfield 21, 3) := by decide +kernel
theorem dX4_init_29 : decode cX4_init 29 = .ok (.return_, 1) := by decide +kernel
abbrev MX4_init : zT := (yX4_init, cX4_init, 1, (Option.none : Option Jvm.ClassFile.FieldType), [])
theorem plX4_init : zplain MX4_init 0 ∧ (zcodeW MX4_init ∈ lw_all ∧ Cond.initialized MX4_init.1.cls ∈ lw_all) := ⟨⟨by decide +kernel, by decide +kernel⟩, q233, q108⟩
noncomputable def f_X4_init (x0 : Int) (σ : zM) : Option zO :=
  zgd (decide (0 ≤ x0)) <|
  (znA σ 106 8).bind fun σ1 =>
  (zpf σ1 404 x0 (↑(zN σ) : Int)).bind fun σ2 =>
  (znA σ2 101 8).bind fun σ3 =>
  (zpf σ3 405 x0 (↑(zN σ2) : Int)).bind fun σ4 =>
  (znA σ4 102 31).bind fun σ5 =>
  (zpf σ5 406 x0 (↑(zN σ4) : Int)).bind fun σ6 =>
  some (0, ((3, 0) : zV), σ6)
theorem c_X4_init {g : zG} {lv : Nat} {x0 : Int} {σ : zM} {out : zO} (h : f_X4_init x0 σ = some out) : Cj g (lv + 1) MX4_init [zr x0] σ out := by
  refine cj_go (ls := [(0, zr x0)]) (by decide) (Nat.le_of_ble_eq_true rfl) rfl (zgen h (fun r hk => ?_))
  unfold f_X4_init
  refine zst_ (gj_aload_n 0 (pc := 0) dX4_init_0 rfl) ?_
  refine gb_gd (fun hb => ?_)
  refine zst_ (gj_obj (pc := 1) (of_decide_eq_true hb) dX4_init_1 q234 q152 q153 (by omega) (Nat.le_of_ble_eq_true rfl)) ?_
  refine zst_ (gj_aload_n 0 (pc := 4) dX4_init_4 rfl) ?_
  refine zst_ (gj_bipush (pc := 5) dX4_init_5 ⟨rfl, by decide⟩) ?_
  refine gb_anew (pc := 7) (k := 106) ⟨by decide, by decide⟩ rfl dX4_init_7 q235 q196 (fun σ1 => ?_)
  refine gb_putFi (pc := 10) fl404 rfl rfl fr404 dX4_init_10 q244 (Or.inl rfl) (fun σ2 => ?_)
  refine zst_ (gj_aload_n 0 (pc := 13) dX4_init_13 rfl) ?_
  refine zst_ (gj_bipush (pc := 14) dX4_init_14 ⟨rfl, by decide⟩) ?_
  refine gb_newa (pc := 16) (k := 101) ⟨by decide, by decide⟩ rfl dX4_init_16 q228 (fun σ3 => ?_)
  refine gb_putFi (pc := 18) fl405 rfl rfl fr405 dX4_init_18 q246 (Or.inl rfl) (fun σ4 => ?_)
  refine zst_ (gj_aload_n 0 (pc := 21) dX4_init_21 rfl) ?_
  refine zst_ (gj_bipush (pc := 22) dX4_init_22 ⟨rfl, by decide⟩) ?_
  refine gb_newa (pc := 24) (k := 102) ⟨by decide, by decide⟩ rfl dX4_init_24 q267 (fun σ5 => ?_)
  refine gb_putFi (pc := 26) fl406 rfl rfl fr406 dX4_init_26 q249 (Or.inl rfl) (fun σ6 => ?_)
  intro h
  cases h
  have hk : (0, ((3, 0) : zV), σ6) = out := hk
  subst hk
  exact gj_vret (pc := 29) dX4_init_29 rfl
theorem q191 : (Jvm.Cond.code ({ cls := "LassoFinder$Model", name := "<init>", desc := "()V" } : Jvm.MethodName) prog_9_method_1_code (2 : Nat) (Option.none : Option Jvm.ClassFile.FieldType)) ∈ lw_all := lw_g (lw_at lw_m1 91 rfl) rfl
theorem q192 : (Jvm.Cond.methodLink "LassoFinder$Model" (3 : Nat) ({ cls := "java/lang/Object", name := "<init>", desc := "()V" } : Jvm.MethodName)) ∈ lw_all := lw_g (lw_at lw_m1 92 rfl) rfl
theorem q193 : (Jvm.Cond.classLink "LassoFinder$Model" (18 : Nat) "LassoFinder$Routine") ∈ lw_all := lw_g (lw_at lw_m1 93 rfl) rfl
theorem q194 : (Jvm.Cond.arrayOver (Jvm.ClassFile.FieldType.object "LassoFinder$Routine")) ∈ lw_tbl := lw_at lw_m1 94 rfl
theorem q195 : (Jvm.Cond.classLink "LassoFinder$Model" (24 : Nat) "LassoFinder$Statement") ∈ lw_all := lw_g (lw_at lw_m1 95 rfl) rfl
theorem q197 : (Jvm.Cond.classLink "LassoFinder$Model" (40 : Nat) "LassoFinder$Moment") ∈ lw_all := lw_g (lw_at lw_m1 97 rfl) rfl
theorem q198 : (Jvm.Cond.instantiable "LassoFinder$Moment" (4 : Nat)) ∈ lw_all := lw_g (lw_at lw_m1 98 rfl) rfl
theorem q199 : (Jvm.Cond.methodLinkNest "LassoFinder$Model" (42 : Nat) ({ cls := "LassoFinder$Moment", name := "<init>", desc := "()V" } : Jvm.MethodName) "LassoFinder") ∈ lw_tbl := lw_at lw_m1 99 rfl
theorem q200 : (Jvm.Cond.instanceMethod ({ cls := "LassoFinder$Moment", name := "<init>", desc := "()V" } : Jvm.MethodName)) ∈ lw_all := lw_g (lw_at lw_m1 100 rfl) rfl
theorem q229 : (Jvm.Cond.arrayClass Jvm.ClassFile.FieldType.boolean) ∈ lw_all := lw_g (lw_at lw_m1 129 rfl) rfl
theorem q230 : (Jvm.Cond.instantiable "LassoFinder$Routine" (7 : Nat)) ∈ lw_all := lw_g (lw_at lw_m1 130 rfl) rfl
theorem q231 : (Jvm.Cond.methodLinkNest "LassoFinder$Model" (72 : Nat) ({ cls := "LassoFinder$Routine", name := "<init>", desc := "()V" } : Jvm.MethodName) "LassoFinder") ∈ lw_tbl := lw_at lw_m1 131 rfl
theorem q232 : (Jvm.Cond.instanceMethod ({ cls := "LassoFinder$Routine", name := "<init>", desc := "()V" } : Jvm.MethodName)) ∈ lw_all := lw_g (lw_at lw_m1 132 rfl) rfl
abbrev cX2_init : ByteArray := prog_9_method_1_code
def yX2_init : MethodName := ⟨RX2, "<init>", "()V"⟩
theorem dX2_init_0 : decode cX2_init 0 = .ok (.aload_n 0, 1) := by decide +kernel
theorem dX2_init_1 : decode cX2_init 1 = .ok (.invokespecial 3, 3) := by decide +kernel
theorem dX2_init_4 : decode cX2_init 4 = .ok (.aload_n 0, 1) := by decide +kernel
theorem dX2_init_5 : decode cX2_init 5 = .ok (.bipush 8, 2) := by decide +kernel
theorem dX2_init_7 : decode cX2_init 7 = .ok (.newarray .int, 2) := by decide +kernel
theorem dX2_init_9 : decode cX2_init 9 = .ok (.putfield 9, 3) := by decide +kernel
theorem dX2_init_12 : decode cX2_init 12 = .ok (.aload_n 0, 1) := by decide +kernel
theorem dX2_init_13 : decode cX2_init 13 = .ok (.bipush 8, 2) := by decide +kernel
theorem dX2_init_15 : decode cX2_init 15 = .ok (.newarray .int, 2) := by decide +kernel
theorem dX2_init_17 : decode cX2_init 17 = .ok (.putfield 15, 3) := by decide +kernel
theorem dX2_init_20 : decode cX2_init 20 = .ok (.aload_n 0, 1) := by decide +kernel
theorem dX2_init_21 : decode cX2_init 21 = .ok (.iconst 4, 1) := by decide +kernel
theorem dX2_init_22 : decode cX2_init 22 = .ok (.anewarray 18, 3) := by decide +kernel
theorem dX2_init_25 : decode cX2_init 25 = .ok (.putfield 20, 3) := by decide +kernel
theorem dX2_init_28 : decode cX2_init 28 = .ok (.aload_n 0, 1) := by decide +kernel
theorem dX2_init_29 : decode cX2_init 29 = .ok (.bipush 48, 2) := by decide +kernel
theorem dX2_init_31 : decode cX2_init 31 = .ok (.anewarray 24, 3) := by decide +kernel
theorem dX2_init_34 : decode cX2_init 34 = .ok (.putfield 26, 3) := by decide +kernel
theorem dX2_init_37 : decode cX2_init 37 = .ok (.aload_n 0, 1) := by decide +kernel
theorem dX2_init_38 : decode cX2_init 38 = .ok (.bipush 48, 2) := by decide +kernel
theorem dX2_init_40 : decode cX2_init 40 = .ok (.newarray .int, 2) := by decide +kernel
theorem dX2_init_42 : decode cX2_init 42 = .ok (.putfield 30, 3) := by decide +kernel
theorem dX2_init_45 : decode cX2_init 45 = .ok (.aload_n 0, 1) := by decide +kernel
theorem dX2_init_46 : decode cX2_init 46 = .ok (.bipush 48, 2) := by decide +kernel
theorem dX2_init_48 : decode cX2_init 48 = .ok (.newarray .int, 2) := by decide +kernel
theorem dX2_init_50 : decode cX2_init 50 = .ok (.putfield 33, 3) := by decide +kernel
theorem dX2_init_53 : decode cX2_init 53 = .ok (.aload_n 0, 1) := by decide +kernel
theorem dX2_init_54 : decode cX2_init 54 = .ok (.bipush 48, 2) := by decide +kernel
theorem dX2_init_56 : decode cX2_init 56 = .ok (.newarray .boolean, 2) := by decide +kernel
theorem dX2_init_58 : decode cX2_init 58 = .ok (.putfield 36, 3) := by decide +kernel
theorem dX2_init_61 : decode cX2_init 61 = .ok (.aload_n 0, 1) := by decide +kernel
theorem dX2_init_62 : decode cX2_init 62 = .ok (.new 40, 3) := by decide +kernel
theorem dX2_init_65 : decode cX2_init 65 = .ok (.dup, 1) := by decide +kernel
theorem dX2_init_66 : decode cX2_init 66 = .ok (.invokespecial 42, 3) := by decide +kernel
theorem dX2_init_69 : decode cX2_init 69 = .ok (.putfield 43, 3) := by decide +kernel
theorem dX2_init_72 : decode cX2_init 72 = .ok (.aload_n 0, 1) := by decide +kernel
theorem dX2_init_73 : decode cX2_init 73 = .ok (.new 40, 3) := by decide +kernel
theorem dX2_init_76 : decode cX2_init 76 = .ok (.dup, 1) := by decide +kernel
theorem dX2_init_77 : decode cX2_init 77 = .ok (.invokespecial 42, 3) := by decide +kernel
theorem dX2_init_80 : decode cX2_init 80 = .ok (.putfield 47, 3) := by decide +kernel
theorem dX2_init_83 : decode cX2_init 83 = .ok (.aload_n 0, 1) := by decide +kernel
theorem dX2_init_84 : decode cX2_init 84 = .ok (.bipush 96, 2) := by decide +kernel
theorem dX2_init_86 : decode cX2_init 86 = .ok (.newarray .long, 2) := by decide +kernel
theorem dX2_init_88 : decode cX2_init 88 = .ok (.putfield 50, 3) := by decide +kernel
theorem dX2_init_91 : decode cX2_init 91 = .ok (.aload_n 0, 1) := by decide +kernel
theorem dX2_init_92 : decode cX2_init 92 = .ok (.sipush 384, 3) := by decide +kernel
theorem dX2_init_95 : decode cX2_init 95 = .ok (.newarray .int, 2) := by decide +kernel
theorem dX2_init_97 : decode cX2_init 97 = .ok (.putfield 54, 3) := by decide +kernel
theorem dX2_init_100 : decode cX2_init 100 = .ok (.aload_n 0, 1) := by decide +kernel
theorem dX2_init_101 : decode cX2_init 101 = .ok (.bipush 97, 2) := by decide +kernel
theorem dX2_init_103 : decode cX2_init 103 = .ok (.newarray .int, 2) := by decide +kernel
theorem dX2_init_105 : decode cX2_init 105 = .ok (.putfield 57, 3) := by decide +kernel
theorem dX2_init_108 : decode cX2_init 108 = .ok (.aload_n 0, 1) := by decide +kernel
theorem dX2_init_109 : decode cX2_init 109 = .ok (.sipush 400, 3) := by decide +kernel
theorem dX2_init_112 : decode cX2_init 112 = .ok (.newarray .int, 2) := by decide +kernel
theorem dX2_init_114 : decode cX2_init 114 = .ok (.putfield 60, 3) := by decide +kernel
theorem dX2_init_117 : decode cX2_init 117 = .ok (.aload_n 0, 1) := by decide +kernel
theorem dX2_init_118 : decode cX2_init 118 = .ok (.sipush 400, 3) := by decide +kernel
theorem dX2_init_121 : decode cX2_init 121 = .ok (.newarray .int, 2) := by decide +kernel
theorem dX2_init_123 : decode cX2_init 123 = .ok (.putfield 63, 3) := by decide +kernel
theorem dX2_init_126 : decode cX2_init 126 = .ok (.aload_n 0, 1) := by decide +kernel
theorem dX2_init_127 : decode cX2_init 127 = .ok (.sipush 400, 3) := by decide +kernel
theorem dX2_init_130 : decode cX2_init 130 = .ok (.newarray .int, 2) := by decide +kernel
theorem dX2_init_132 : decode cX2_init 132 = .ok (.putfield 66, 3) := by decide +kernel
theorem dX2_init_135 : decode cX2_init 135 = .ok (.aload_n 0, 1) := by decide +kernel
theorem dX2_init_136 : decode cX2_init 136 = .ok (.sipush 400, 3) := by decide +kernel
theorem dX2_init_139 : decode cX2_init 139 = .ok (.newarray .int, 2) := by decide +kernel
theorem dX2_init_141 : decode cX2_init 141 = .ok (.putfield 69, 3) := by decide +kernel
theorem dX2_init_144 : decode cX2_init 144 = .ok (.iconst 0, 1) := by decide +kernel
theorem dX2_init_145 : decode cX2_init 145 = .ok (.istore_n 1, 1) := by decide +kernel
theorem dX2_init_146 : decode cX2_init 146 = .ok (.iload_n 1, 1) := by decide +kernel
theorem dX2_init_147 : decode cX2_init 147 = .ok (.iconst 4, 1) := by decide +kernel
theorem dX2_init_148 : decode cX2_init 148 = .ok (.if_icmp .ge 22, 3) := by decide +kernel
theorem dX2_init_151 : decode cX2_init 151 = .ok (.aload_n 0, 1) := by decide +kernel
theorem dX2_init_152 : decode cX2_init 152 = .ok (.getfield 20, 3) := by decide +kernel
theorem dX2_init_155 : decode cX2_init 155 = .ok (.iload_n 1, 1) := by decide +kernel
theorem dX2_init_156 : decode cX2_init 156 = .ok (.new 18, 3) := by decide +kernel
theorem dX2_init_159 : decode cX2_init 159 = .ok (.dup, 1) := by decide +kernel
theorem dX2_init_160 : decode cX2_init 160 = .ok (.invokespecial 72, 3) := by decide +kernel
theorem dX2_init_163 : decode cX2_init 163 = .ok (.aastore, 1) := by decide +kernel
theorem dX2_init_164 : decode cX2_init 164 = .ok (.iinc 1 1, 3) := by decide +kernel
theorem dX2_init_167 : decode cX2_init 167 = .ok (.goto (-21), 3) := by decide +kernel
theorem dX2_init_170 : decode cX2_init 170 = .ok (.return_, 1) := by decide +kernel
abbrev MX2_init : zT := (yX2_init, cX2_init, 2, (Option.none : Option Jvm.ClassFile.FieldType), [])
theorem plX2_init : zplain MX2_init 0 ∧ (zcodeW MX2_init ∈ lw_all ∧ Cond.initialized MX2_init.1.cls ∈ lw_all) := ⟨⟨by decide +kernel, by decide +kernel⟩, q191, q106⟩
noncomputable def f_X2_init_170 (σ : zM) : Option zO :=
  some (0, ((3, 0) : zV), σ)
theorem w_X2_init_170 {g : zG} {lv : Nat} {out : zO} (σ : zM) {r : zO} (h : f_X2_init_170  σ = some r) (hk : (fun o : zO => o = out) r) : Gj g MX2_init (lv + 2) 170 [] [] σ out := by
  revert h
  unfold f_X2_init_170
  intro h
  cases h
  have hk : (0, ((3, 0) : zV), σ) = out := hk
  subst hk
  exact gj_vret (pc := 170) dX2_init_170 rfl
noncomputable def f_X2_init_146_b (x0 x1 : Int) (σ : zM) : Option ((Int × zM) ⊕ zO) :=
  if 4 ≤ x1 then
    (f_X2_init_170 σ).map (fun r => (.inr r))
  else
    (zgf σ 206 x0).bind fun v1 =>
    (znO σ 4 7).bind fun σ2 =>
    zlet ((↑(zN σ) : Int)) fun y3 =>
    zgd (decide (0 ≤ y3)) <|
    zcv (f_X4_init y3 σ2) fun σ4 =>
    (zpr σ4 107 v1 x1 y3).bind fun σ5 =>
    zlet (zadd x1 1) fun y6 =>
    some (.inl (y6, σ5))
noncomputable def f_X2_init_146 (x0 x1 : Int) (σ : zM) : Option zO :=
  zloop (fun s : Int × zM => f_X2_init_146_b x0 s.1 s.2) (x1, σ)
theorem w_X2_init_146_b {g : zG} {lv : Nat} {out : zO} (x0 x1 : Int) (σ : zM) {r : ((Int × zM) ⊕ zO)} (h : f_X2_init_146_b x0 x1 σ = some r) (hk : (zKL (fun s : Int × zM => Gj g MX2_init (lv + 2) 146 [(0, zr x0), (1, zi s.1)] [] s.2 out) (fun o : zO => o = out)) r) : Gj g MX2_init (lv + 2) 146 [(0, zr x0), (1, zi x1)] [] σ out := by
  revert h
  unfold f_X2_init_146_b
  refine zst_ (gj_iload_n 1 (pc := 146) dX2_init_146 rfl) ?_
  refine zst_ (gj_iconst (pc := 147) dX2_init_147 (by decide)) ?_
  refine gb_if (gj_icmp_ge 170 (pc := 148) dX2_init_148 (by decide)) ?_ ?_
  · refine zst_ (gj_sub [] rfl) ?_
    intro h
    obtain ⟨r0, h0, rfl⟩ := zmE h
    exact w_X2_init_170 σ h0 hk
  · refine zst_ (gj_aload_n 0 (pc := 151) dX2_init_151 rfl) ?_
    refine gb_get (pc := 152) fl206 dX2_init_152 q284 (Or.inl rfl) (fun v1 => ?_)
    refine zst_ (gj_iload_n 1 (pc := 155) dX2_init_155 rfl) ?_
    refine gb_new (pc := 156) (ci := 4) (c := (RX4, TX4, 7)) rfl (by decide) dX2_init_156 q193 q230 q108 (fun σ2 => ?_)
    refine gb_let (fun y3 => ?_)
    refine zst_ (gj_dup (pc := 159) dX2_init_159 rfl) ?_
    refine gb_gd (fun hb => ?_)
    refine gb_callV (pc := 160) (as := [zr y3]) (rest := [zr y3, zi x1, zr v1]) (zCl.of (zLk_IN (M := MX2_init) plX4_init.1 rfl (of_decide_eq_true hb) rfl rfl dX2_init_160 q231 q232 q233) plX4_init (Nat.le_of_ble_eq_true rfl) (fun h => c_X4_init h)) (fun σ4 => ?_)
    refine gb_aast (pc := 163) (k := 107) ⟨by decide, by decide⟩ dX2_init_163 (fun σ5 => ?_)
    refine gb_iinc (pc := 164) 1 (fun y6 => [(1, zi y6), (0, zr x0)]) dX2_init_164 rfl (by decide) (fun _ => rfl) (fun y6 => ?_)
    refine zst_ (gj_goto 146 (pc := 167) dX2_init_167 (by decide)) ?_
    refine zst_ (gj_sub [1, 0] rfl) ?_
    intro h
    cases h
    exact hk
theorem w_X2_init_146 {g : zG} {lv : Nat} {out : zO} (x0 x1 : Int) (σ : zM) {r : zO} (h : f_X2_init_146 x0 x1 σ = some r) (hk : (fun o : zO => o = out) r) : Gj g MX2_init (lv + 2) 146 [(0, zr x0), (1, zi x1)] [] σ out :=
  gj_loop (P := (fun s : Int × zM => Gj g MX2_init (lv + 2) 146 [(0, zr x0), (1, zi s.1)] [] s.2 out)) (fun s x hb hx => w_X2_init_146_b x0 s.1 s.2 hb hx) h hk
noncomputable def f_X2_init (x0 : Int) (σ : zM) : Option zO :=
  zgd (decide (0 ≤ x0)) <|
  (znA σ 101 8).bind fun σ1 =>
  (zpf σ1 200 x0 (↑(zN σ) : Int)).bind fun σ2 =>
  (znA σ2 101 8).bind fun σ3 =>
  (zpf σ3 201 x0 (↑(zN σ2) : Int)).bind fun σ4 =>
  (znA σ4 107 4).bind fun σ5 =>
  (zpf σ5 206 x0 (↑(zN σ4) : Int)).bind fun σ6 =>
  (znA σ6 106 48).bind fun σ7 =>
  (zpf σ7 207 x0 (↑(zN σ6) : Int)).bind fun σ8 =>
  (znA σ8 101 48).bind fun σ9 =>
  (zpf σ9 208 x0 (↑(zN σ8) : Int)).bind fun σ10 =>
  (znA σ10 101 48).bind fun σ11 =>
  (zpf σ11 209 x0 (↑(zN σ10) : Int)).bind fun σ12 =>
  (znA σ12 103 48).bind fun σ13 =>
  (zpf σ13 210 x0 (↑(zN σ12) : Int)).bind fun σ14 =>
  (znO σ14 3 4).bind fun σ15 =>
  zlet ((↑(zN σ14) : Int)) fun y16 =>
  zgd (decide (0 ≤ y16)) <|
  zcv (f_X3_init y16 σ15) fun σ17 =>
  (zpf σ17 211 x0 y16).bind fun σ18 =>
  (znO σ18 3 4).bind fun σ19 =>
  zlet ((↑(zN σ18) : Int)) fun y20 =>
  zgd (decide (0 ≤ y20)) <|
  zcv (f_X3_init y20 σ19) fun σ21 =>
  (zpf σ21 212 x0 y20).bind fun σ22 =>
  (znA σ22 102 96).bind fun σ23 =>
  (zpf σ23 213 x0 (↑(zN σ22) : Int)).bind fun σ24 =>
  (znA σ24 101 384).bind fun σ25 =>
  (zpf σ25 214 x0 (↑(zN σ24) : Int)).bind fun σ26 =>
  (znA σ26 101 97).bind fun σ27 =>
  (zpf σ27 215 x0 (↑(zN σ26) : Int)).bind fun σ28 =>
  (znA σ28 101 400).bind fun σ29 =>
  (zpf σ29 216 x0 (↑(zN σ28) : Int)).bind fun σ30 =>
  (znA σ30 101 400).bind fun σ31 =>
  (zpf σ31 217 x0 (↑(zN σ30) : Int)).bind fun σ32 =>
  (znA σ32 101 400).bind fun σ33 =>
  (zpf σ33 218 x0 (↑(zN σ32) : Int)).bind fun σ34 =>
  (znA σ34 101 400).bind fun σ35 =>
  (zpf σ35 219 x0 (↑(zN σ34) : Int)).bind fun σ36 =>
  f_X2_init_146 x0 0 σ36
theorem c_X2_init {g : zG} {lv : Nat} {x0 : Int} {σ : zM} {out : zO} (h : f_X2_init x0 σ = some out) : Cj g (lv + 2) MX2_init [zr x0] σ out := by
  refine cj_go (ls := [(0, zr x0)]) (by decide) (Nat.le_of_ble_eq_true rfl) rfl (zgen h (fun r hk => ?_))
  unfold f_X2_init
  refine zst_ (gj_aload_n 0 (pc := 0) dX2_init_0 rfl) ?_
  refine gb_gd (fun hb => ?_)
  refine zst_ (gj_obj (pc := 1) (of_decide_eq_true hb) dX2_init_1 q192 q152 q153 (by omega) (Nat.le_of_ble_eq_true rfl)) ?_
  refine zst_ (gj_aload_n 0 (pc := 4) dX2_init_4 rfl) ?_
  refine zst_ (gj_bipush (pc := 5) dX2_init_5 ⟨rfl, by decide⟩) ?_
  refine gb_newa (pc := 7) (k := 101) ⟨by decide, by decide⟩ rfl dX2_init_7 q228 (fun σ1 => ?_)
  refine gb_putFi (pc := 9) fl200 rfl rfl fr200 dX2_init_9 q268 (Or.inl rfl) (fun σ2 => ?_)
  refine zst_ (gj_aload_n 0 (pc := 12) dX2_init_12 rfl) ?_
  refine zst_ (gj_bipush (pc := 13) dX2_init_13 ⟨rfl, by decide⟩) ?_
  refine gb_newa (pc := 15) (k := 101) ⟨by decide, by decide⟩ rfl dX2_init_15 q228 (fun σ3 => ?_)
  refine gb_putFi (pc := 17) fl201 rfl rfl fr201 dX2_init_17 q272 (Or.inl rfl) (fun σ4 => ?_)
  refine zst_ (gj_aload_n 0 (pc := 20) dX2_init_20 rfl) ?_
  refine zst_ (gj_iconst (pc := 21) dX2_init_21 (by decide)) ?_
  refine gb_anew (pc := 22) (k := 107) ⟨by decide, by decide⟩ rfl dX2_init_22 q193 q194 (fun σ5 => ?_)
  refine gb_putFi (pc := 25) fl206 rfl rfl fr206 dX2_init_25 q284 (Or.inl rfl) (fun σ6 => ?_)
  refine zst_ (gj_aload_n 0 (pc := 28) dX2_init_28 rfl) ?_
  refine zst_ (gj_bipush (pc := 29) dX2_init_29 ⟨rfl, by decide⟩) ?_
  refine gb_anew (pc := 31) (k := 106) ⟨by decide, by decide⟩ rfl dX2_init_31 q195 q196 (fun σ7 => ?_)
  refine gb_putFi (pc := 34) fl207 rfl rfl fr207 dX2_init_34 q287 (Or.inl rfl) (fun σ8 => ?_)
  refine zst_ (gj_aload_n 0 (pc := 37) dX2_init_37 rfl) ?_
  refine zst_ (gj_bipush (pc := 38) dX2_init_38 ⟨rfl, by decide⟩) ?_
  refine gb_newa (pc := 40) (k := 101) ⟨by decide, by decide⟩ rfl dX2_init_40 q228 (fun σ9 => ?_)
  refine gb_putFi (pc := 42) fl208 rfl rfl fr208 dX2_init_42 q289 (Or.inl rfl) (fun σ10 => ?_)
  refine zst_ (gj_aload_n 0 (pc := 45) dX2_init_45 rfl) ?_
  refine zst_ (gj_bipush (pc := 46) dX2_init_46 ⟨rfl, by decide⟩) ?_
  refine gb_newa (pc := 48) (k := 101) ⟨by decide, by decide⟩ rfl dX2_init_48 q228 (fun σ11 => ?_)
  refine gb_putFi (pc := 50) fl209 rfl rfl fr209 dX2_init_50 q291 (Or.inl rfl) (fun σ12 => ?_)
  refine zst_ (gj_aload_n 0 (pc := 53) dX2_init_53 rfl) ?_
  refine zst_ (gj_bipush (pc := 54) dX2_init_54 ⟨rfl, by decide⟩) ?_
  refine gb_newa (pc := 56) (k := 103) ⟨by decide, by decide⟩ rfl dX2_init_56 q229 (fun σ13 => ?_)
  refine gb_putFi (pc := 58) fl210 rfl rfl fr210 dX2_init_58 q293 (Or.inl rfl) (fun σ14 => ?_)
  refine zst_ (gj_aload_n 0 (pc := 61) dX2_init_61 rfl) ?_
  refine gb_new (pc := 62) (ci := 3) (c := (RX3, TX3, 4)) rfl (by decide) dX2_init_62 q197 q198 q107 (fun σ15 => ?_)
  refine gb_let (fun y16 => ?_)
  refine zst_ (gj_dup (pc := 65) dX2_init_65 rfl) ?_
  refine gb_gd (fun hb => ?_)
  refine gb_callV (pc := 66) (as := [zr y16]) (rest := [zr y16, zr x0]) (zCl.of (zLk_IN (M := MX2_init) plX3_init.1 rfl (of_decide_eq_true hb) rfl rfl dX2_init_66 q199 q200 q201) plX3_init (Nat.le_of_ble_eq_true rfl) (fun h => c_X3_init h)) (fun σ17 => ?_)
  refine gb_putFi (pc := 69) fl211 rfl rfl fr211 dX2_init_69 q295 (Or.inl rfl) (fun σ18 => ?_)
  refine zst_ (gj_aload_n 0 (pc := 72) dX2_init_72 rfl) ?_
  refine gb_new (pc := 73) (ci := 3) (c := (RX3, TX3, 4)) rfl (by decide) dX2_init_73 q197 q198 q107 (fun σ19 => ?_)
  refine gb_let (fun y20 => ?_)
  refine zst_ (gj_dup (pc := 76) dX2_init_76 rfl) ?_
  refine gb_gd (fun hb => ?_)
  refine gb_callV (pc := 77) (as := [zr y20]) (rest := [zr y20, zr x0]) (zCl.of (zLk_IN (M := MX2_init) plX3_init.1 rfl (of_decide_eq_true hb) rfl rfl dX2_init_77 q199 q200 q201) plX3_init (Nat.le_of_ble_eq_true rfl) (fun h => c_X3_init h)) (fun σ21 => ?_)
  refine gb_putFi (pc := 80) fl212 rfl rfl fr212 dX2_init_80 q297 (Or.inl rfl) (fun σ22 => ?_)
  refine zst_ (gj_aload_n 0 (pc := 83) dX2_init_83 rfl) ?_
  refine zst_ (gj_bipush (pc := 84) dX2_init_84 ⟨rfl, by decide⟩) ?_
  refine gb_newa (pc := 86) (k := 102) ⟨by decide, by decide⟩ rfl dX2_init_86 q267 (fun σ23 => ?_)
  refine gb_putFi (pc := 88) fl213 rfl rfl fr213 dX2_init_88 q298 (Or.inl rfl) (fun σ24 => ?_)
  refine zst_ (gj_aload_n 0 (pc := 91) dX2_init_91 rfl) ?_
  refine zst_ (gj_sipush (pc := 92) dX2_init_92 ⟨rfl, by decide⟩) ?_
  refine gb_newa (pc := 95) (k := 101) ⟨by decide, by decide⟩ rfl dX2_init_95 q228 (fun σ25 => ?_)
  refine gb_putFi (pc := 97) fl214 rfl rfl fr214 dX2_init_97 q299 (Or.inl rfl) (fun σ26 => ?_)
  refine zst_ (gj_aload_n 0 (pc := 100) dX2_init_100 rfl) ?_
  refine zst_ (gj_bipush (pc := 101) dX2_init_101 ⟨rfl, by decide⟩) ?_
  refine gb_newa (pc := 103) (k := 101) ⟨by decide, by decide⟩ rfl dX2_init_103 q228 (fun σ27 => ?_)
  refine gb_putFi (pc := 105) fl215 rfl rfl fr215 dX2_init_105 q300 (Or.inl rfl) (fun σ28 => ?_)
  refine zst_ (gj_aload_n 0 (pc := 108) dX2_init_108 rfl) ?_
  refine zst_ (gj_sipush (pc := 109) dX2_init_109 ⟨rfl, by decide⟩) ?_
  refine gb_newa (pc := 112) (k := 101) ⟨by decide, by decide⟩ rfl dX2_init_112 q228 (fun σ29 => ?_)
  refine gb_putFi (pc := 114) fl216 rfl rfl fr216 dX2_init_114 q303 (Or.inl rfl) (fun σ30 => ?_)
  refine zst_ (gj_aload_n 0 (pc := 117) dX2_init_117 rfl) ?_
  refine zst_ (gj_sipush (pc := 118) dX2_init_118 ⟨rfl, by decide⟩) ?_
  refine gb_newa (pc := 121) (k := 101) ⟨by decide, by decide⟩ rfl dX2_init_121 q228 (fun σ31 => ?_)
  refine gb_putFi (pc := 123) fl217 rfl rfl fr217 dX2_init_123 q305 (Or.inl rfl) (fun σ32 => ?_)
  refine zst_ (gj_aload_n 0 (pc := 126) dX2_init_126 rfl) ?_
  refine zst_ (gj_sipush (pc := 127) dX2_init_127 ⟨rfl, by decide⟩) ?_
  refine gb_newa (pc := 130) (k := 101) ⟨by decide, by decide⟩ rfl dX2_init_130 q228 (fun σ33 => ?_)
  refine gb_putFi (pc := 132) fl218 rfl rfl fr218 dX2_init_132 q308 (Or.inl rfl) (fun σ34 => ?_)
  refine zst_ (gj_aload_n 0 (pc := 135) dX2_init_135 rfl) ?_
  refine zst_ (gj_sipush (pc := 136) dX2_init_136 ⟨rfl, by decide⟩) ?_
  refine gb_newa (pc := 139) (k := 101) ⟨by decide, by decide⟩ rfl dX2_init_139 q228 (fun σ35 => ?_)
  refine gb_putFi (pc := 141) fl219 rfl rfl fr219 dX2_init_141 q310 (Or.inl rfl) (fun σ36 => ?_)
  refine zst_ (gj_iconst (pc := 144) dX2_init_144 (by decide)) ?_
  refine zst_ (gj_istore_n (pc := 145) (ls' := [(1, zi 0), (0, zr x0)]) dX2_init_145 (by decide) rfl) ?_
  refine zst_ (gj_sub [1, 0] rfl) ?_
  exact fun h => w_X2_init_146 x0 0 σ36 h hk
theorem q370 : (Jvm.Cond.code ({ cls := "LassoFinder$Reader", name := "<init>", desc := "(LLassoFinder$Model;)V" } : Jvm.MethodName) prog_16_method_1_code (2 : Nat) (Option.none : Option Jvm.ClassFile.FieldType)) ∈ lw_all := lw_g (lw_at lw_m2 30 rfl) rfl
theorem q371 : (Jvm.Cond.methodLink "LassoFinder$Reader" (3 : Nat) ({ cls := "java/lang/Object", name := "<init>", desc := "()V" } : Jvm.MethodName)) ∈ lw_all := lw_g (lw_at lw_m2 31 rfl) rfl
abbrev cX5_init : ByteArray := prog_16_method_1_code
def yX5_init : MethodName := ⟨RX5, "<init>", "(LLassoFinder$Model;)V"⟩
theorem dX5_init_0 : decode cX5_init 0 = .ok (.aload_n 0, 1) := by decide +kernel
theorem dX5_init_1 : decode cX5_init 1 = .ok (.invokespecial 3, 3) := by decide +kernel
theorem dX5_init_4 : decode cX5_init 4 = .ok (.aload_n 0, 1) := by decide +kernel
theorem dX5_init_5 : decode cX5_init 5 = .ok (.ldc 9, 2) := by decide +kernel
theorem dX5_init_7 : decode cX5_init 7 = .ok (.putfield 11, 3) := by decide +kernel
theorem dX5_init_10 : decode cX5_init 10 = .ok (.aload_n 0, 1) := by decide +kernel
theorem dX5_init_11 : decode cX5_init 11 = .ok (.aload_n 1, 1) := by decide +kernel
theorem dX5_init_12 : decode cX5_init 12 = .ok (.putfield 17, 3) := by decide +kernel
theorem dX5_init_15 : decode cX5_init 15 = .ok (.return_, 1) := by decide +kernel
abbrev MX5_init : zT := (yX5_init, cX5_init, 2, (Option.none : Option Jvm.ClassFile.FieldType), [])
theorem plX5_init : zplain MX5_init 1 ∧ (zcodeW MX5_init ∈ lw_all ∧ Cond.initialized MX5_init.1.cls ∈ lw_all) := ⟨⟨by decide +kernel, by decide +kernel⟩, q370, q109⟩
noncomputable def f_X5_init (x0 x1 : Int) (σ : zM) : Option zO :=
  zgd (decide (0 ≤ x0)) <|
  (zpf σ 501 x0 (-21)).bind fun σ1 =>
  (zpf σ1 500 x0 x1).bind fun σ2 =>
  some (0, ((3, 0) : zV), σ2)
theorem c_X5_init {g : zG} {lv : Nat} {x0 x1 : Int} {σ : zM} {out : zO} (h : f_X5_init x0 x1 σ = some out) : Cj g (lv + 1) MX5_init [zr x0, zr x1] σ out := by
  refine cj_go (ls := [(0, zr x0), (1, zr x1)]) (by decide) (Nat.le_of_ble_eq_true rfl) rfl (zgen h (fun r hk => ?_))
  unfold f_X5_init
  refine zst_ (gj_aload_n 0 (pc := 0) dX5_init_0 rfl) ?_
  refine gb_gd (fun hb => ?_)
  refine zst_ (gj_obj (pc := 1) (of_decide_eq_true hb) dX5_init_1 q371 q152 q153 (by omega) (Nat.le_of_ble_eq_true rfl)) ?_
  refine zst_ (gj_aload_n 0 (pc := 4) dX5_init_4 rfl) ?_
  refine zst_ (gj_ldcS (pc := 5) dX5_init_5 rfl) ?_
  refine gb_put (pc := 7) fl501 fr501 dX5_init_7 q694 (Or.inl rfl) (fun σ1 => ?_)
  refine zst_ (gj_aload_n 0 (pc := 10) dX5_init_10 rfl) ?_
  refine zst_ (gj_aload_n 1 (pc := 11) dX5_init_11 rfl) ?_
  refine gb_putFi (pc := 12) fl500 rfl rfl fr500 dX5_init_12 q689 (Or.inl rfl) (fun σ2 => ?_)
  intro h
  cases h
  have hk : (0, ((3, 0) : zV), σ2) = out := hk
  subst hk
  exact gj_vret (pc := 15) dX5_init_15 rfl
theorem q111 : (Jvm.Cond.initialized "java/util/AbstractCollection") ∈ lw_all := lw_g (lw_at lw_m1 11 rfl) rfl
theorem q383 : (Jvm.Cond.code ({ cls := "java/util/AbstractCollection", name := "<init>", desc := "()V" } : Jvm.MethodName) prog_45_method_1_code (1 : Nat) (Option.none : Option Jvm.ClassFile.FieldType)) ∈ lw_all := lw_g (lw_at lw_m2 43 rfl) rfl
theorem q384 : (Jvm.Cond.methodLink "java/util/AbstractCollection" (1 : Nat) ({ cls := "java/lang/Object", name := "<init>", desc := "()V" } : Jvm.MethodName)) ∈ lw_all := lw_g (lw_at lw_m2 44 rfl) rfl
abbrev cJ4_init : ByteArray := prog_45_method_1_code
def yJ4_init : MethodName := ⟨RJ4, "<init>", "()V"⟩
theorem dJ4_init_0 : decode cJ4_init 0 = .ok (.aload_n 0, 1) := by decide +kernel
theorem dJ4_init_1 : decode cJ4_init 1 = .ok (.invokespecial 1, 3) := by decide +kernel
theorem dJ4_init_4 : decode cJ4_init 4 = .ok (.return_, 1) := by decide +kernel
abbrev MJ4_init : zT := (yJ4_init, cJ4_init, 1, (Option.none : Option Jvm.ClassFile.FieldType), [])
theorem plJ4_init : zplain MJ4_init 0 ∧ (zcodeW MJ4_init ∈ lw_all ∧ Cond.initialized MJ4_init.1.cls ∈ lw_all) := ⟨⟨by decide +kernel, by decide +kernel⟩, q383, q111⟩
noncomputable def f_J4_init (x0 : Int) (σ : zM) : Option zO :=
  zgd (decide (0 ≤ x0)) <|
  some (0, ((3, 0) : zV), σ)
theorem c_J4_init {g : zG} {lv : Nat} {x0 : Int} {σ : zM} {out : zO} (h : f_J4_init x0 σ = some out) : Cj g (lv + 1) MJ4_init [zr x0] σ out := by
  refine cj_go (ls := [(0, zr x0)]) (by decide) (Nat.le_of_ble_eq_true rfl) rfl (zgen h (fun r hk => ?_))
  unfold f_J4_init
  refine zst_ (gj_aload_n 0 (pc := 0) dJ4_init_0 rfl) ?_
  refine gb_gd (fun hb => ?_)
  refine zst_ (gj_obj (pc := 1) (of_decide_eq_true hb) dJ4_init_1 q384 q152 q153 (by omega) (Nat.le_of_ble_eq_true rfl)) ?_
  intro h
  cases h
  have hk : (0, ((3, 0) : zV), σ) = out := hk
  subst hk
  exact gj_vret (pc := 4) dJ4_init_4 rfl
theorem q112 : (Jvm.Cond.initialized "java/util/AbstractList") ∈ lw_all := lw_g (lw_at lw_m1 12 rfl) rfl
theorem q380 : (Jvm.Cond.code ({ cls := "java/util/AbstractList", name := "<init>", desc := "()V" } : Jvm.MethodName) prog_46_method_1_code (1 : Nat) (Option.none : Option Jvm.ClassFile.FieldType)) ∈ lw_all := lw_g (lw_at lw_m2 40 rfl) rfl
theorem q381 : (Jvm.Cond.methodLink "java/util/AbstractList" (1 : Nat) ({ cls := "java/util/AbstractCollection", name := "<init>", desc := "()V" } : Jvm.MethodName)) ∈ lw_all := lw_g (lw_at lw_m2 41 rfl) rfl
theorem q382 : (Jvm.Cond.instanceMethod ({ cls := "java/util/AbstractCollection", name := "<init>", desc := "()V" } : Jvm.MethodName)) ∈ lw_all := lw_g (lw_at lw_m2 42 rfl) rfl
theorem q676 : (Jvm.Cond.fieldLink "java/util/AbstractList" (7 : Nat) "java/util/AbstractList" "modCount" "I") ∈ lw_all := lw_g (lw_at lw_m3 96 rfl) rfl
abbrev cJ5_init : ByteArray := prog_46_method_1_code
def yJ5_init : MethodName := ⟨RJ5, "<init>", "()V"⟩
theorem dJ5_init_0 : decode cJ5_init 0 = .ok (.aload_n 0, 1) := by decide +kernel
theorem dJ5_init_1 : decode cJ5_init 1 = .ok (.invokespecial 1, 3) := by decide +kernel
theorem dJ5_init_4 : decode cJ5_init 4 = .ok (.aload_n 0, 1) := by decide +kernel
theorem dJ5_init_5 : decode cJ5_init 5 = .ok (.iconst 0, 1) := by decide +kernel
theorem dJ5_init_6 : decode cJ5_init 6 = .ok (.putfield 7, 3) := by decide +kernel
theorem dJ5_init_9 : decode cJ5_init 9 = .ok (.return_, 1) := by decide +kernel
abbrev MJ5_init : zT := (yJ5_init, cJ5_init, 1, (Option.none : Option Jvm.ClassFile.FieldType), [])
theorem plJ5_init : zplain MJ5_init 0 ∧ (zcodeW MJ5_init ∈ lw_all ∧ Cond.initialized MJ5_init.1.cls ∈ lw_all) := ⟨⟨by decide +kernel, by decide +kernel⟩, q380, q112⟩
noncomputable def f_J5_init (x0 : Int) (σ : zM) : Option zO :=
  zgd (decide (0 ≤ x0)) <|
  zcv (f_J4_init x0 σ) fun σ1 =>
  (zpf σ1 2200 x0 0).bind fun σ2 =>
  some (0, ((3, 0) : zV), σ2)
theorem c_J5_init {g : zG} {lv : Nat} {x0 : Int} {σ : zM} {out : zO} (h : f_J5_init x0 σ = some out) : Cj g (lv + 2) MJ5_init [zr x0] σ out := by
  refine cj_go (ls := [(0, zr x0)]) (by decide) (Nat.le_of_ble_eq_true rfl) rfl (zgen h (fun r hk => ?_))
  unfold f_J5_init
  refine zst_ (gj_aload_n 0 (pc := 0) dJ5_init_0 rfl) ?_
  refine gb_gd (fun hb => ?_)
  refine gb_callV (pc := 1) (as := [zr x0]) (rest := []) (zCl.of (zLk_I (M := MJ5_init) plJ4_init.1 rfl (of_decide_eq_true hb) rfl rfl dJ5_init_1 q381 q382 q383) plJ4_init (Nat.le_of_ble_eq_true rfl) (fun h => c_J4_init h)) (fun σ1 => ?_)
  refine zst_ (gj_aload_n 0 (pc := 4) dJ5_init_4 rfl) ?_
  refine zst_ (gj_iconst (pc := 5) dJ5_init_5 (by decide)) ?_
  refine gb_put (pc := 6) fl2200 fr2200 dJ5_init_6 q676 (Or.inl rfl) (fun σ2 => ?_)
  intro h
  cases h
  have hk : (0, ((3, 0) : zV), σ2) = out := hk
  subst hk
  exact gj_vret (pc := 9) dJ5_init_9 rfl
theorem q377 : (Jvm.Cond.code ({ cls := "java/util/ArrayList", name := "<init>", desc := "(I)V" } : Jvm.MethodName) prog_47_method_1_code (2 : Nat) (Option.none : Option Jvm.ClassFile.FieldType)) ∈ lw_all := lw_g (lw_at lw_m2 37 rfl) rfl
theorem q378 : (Jvm.Cond.methodLink "java/util/ArrayList" (1 : Nat) ({ cls := "java/util/AbstractList", name := "<init>", desc := "()V" } : Jvm.MethodName)) ∈ lw_all := lw_g (lw_at lw_m2 38 rfl) rfl
theorem q379 : (Jvm.Cond.instanceMethod ({ cls := "java/util/AbstractList", name := "<init>", desc := "()V" } : Jvm.MethodName)) ∈ lw_all := lw_g (lw_at lw_m2 39 rfl) rfl
theorem q385 : (Jvm.Cond.classLink "java/util/ArrayList" (7 : Nat) "java/lang/Object") ∈ lw_all := lw_g (lw_at lw_m2 45 rfl) rfl
abbrev cJ6_init : ByteArray := prog_47_method_1_code
def yJ6_init : MethodName := ⟨RJ6, "<init>", "(I)V"⟩
theorem dJ6_init_0 : decode cJ6_init 0 = .ok (.aload_n 0, 1) := by decide +kernel
theorem dJ6_init_1 : decode cJ6_init 1 = .ok (.invokespecial 1, 3) := by decide +kernel
theorem dJ6_init_4 : decode cJ6_init 4 = .ok (.iload_n 1, 1) := by decide +kernel
theorem dJ6_init_5 : decode cJ6_init 5 = .ok (.ifCond .le 14, 3) := by decide +kernel
theorem dJ6_init_8 : decode cJ6_init 8 = .ok (.aload_n 0, 1) := by decide +kernel
theorem dJ6_init_9 : decode cJ6_init 9 = .ok (.iload_n 1, 1) := by decide +kernel
theorem dJ6_init_10 : decode cJ6_init 10 = .ok (.anewarray 7, 3) := by decide +kernel
theorem dJ6_init_13 : decode cJ6_init 13 = .ok (.putfield 9, 3) := by decide +kernel
theorem dJ6_init_16 : decode cJ6_init 16 = .ok (.goto 44, 3) := by decide +kernel
theorem dJ6_init_19 : decode cJ6_init 19 = .ok (.iload_n 1, 1) := by decide +kernel
theorem dJ6_init_20 : decode cJ6_init 20 = .ok (.ifCond .ne 13, 3) := by decide +kernel
theorem dJ6_init_23 : decode cJ6_init 23 = .ok (.aload_n 0, 1) := by decide +kernel
theorem dJ6_init_24 : decode cJ6_init 24 = .ok (.getstatic 15, 3) := by decide +kernel
theorem dJ6_init_27 : decode cJ6_init 27 = .ok (.putfield 9, 3) := by decide +kernel
theorem dJ6_init_30 : decode cJ6_init 30 = .ok (.goto 30, 3) := by decide +kernel
theorem dJ6_init_33 : decode cJ6_init 33 = .ok (.new 18, 3) := by decide +kernel
theorem dJ6_init_36 : decode cJ6_init 36 = .ok (.dup, 1) := by decide +kernel
theorem dJ6_init_37 : decode cJ6_init 37 = .ok (.new 20, 3) := by decide +kernel
theorem dJ6_init_40 : decode cJ6_init 40 = .ok (.dup, 1) := by decide +kernel
theorem dJ6_init_41 : decode cJ6_init 41 = .ok (.invokespecial 22, 3) := by decide +kernel
theorem dJ6_init_44 : decode cJ6_init 44 = .ok (.ldc 23, 2) := by decide +kernel
theorem dJ6_init_46 : decode cJ6_init 46 = .ok (.invokevirtual 25, 3) := by decide +kernel
theorem dJ6_init_49 : decode cJ6_init 49 = .ok (.iload_n 1, 1) := by decide +kernel
theorem dJ6_init_50 : decode cJ6_init 50 = .ok (.invokevirtual 29, 3) := by decide +kernel
theorem dJ6_init_53 : decode cJ6_init 53 = .ok (.invokevirtual 32, 3) := by decide +kernel
theorem dJ6_init_56 : decode cJ6_init 56 = .ok (.invokespecial 36, 3) := by decide +kernel
theorem dJ6_init_59 : decode cJ6_init 59 = .ok (.athrow, 1) := by decide +kernel
theorem dJ6_init_60 : decode cJ6_init 60 = .ok (.return_, 1) := by decide +kernel
abbrev MJ6_init : zT := (yJ6_init, cJ6_init, 2, (Option.none : Option Jvm.ClassFile.FieldType), [])
theorem plJ6_init : zplain MJ6_init 1 ∧ (zcodeW MJ6_init ∈ lw_all ∧ Cond.initialized MJ6_init.1.cls ∈ lw_all) := ⟨⟨by decide +kernel, by decide +kernel⟩, q377, q113⟩
noncomputable def f_J6_init_60 (σ : zM) : Option zO :=
  some (0, ((3, 0) : zV), σ)
theorem w_J6_init_60 {g : zG} {lv : Nat} {out : zO} (σ : zM) {r : zO} (h : f_J6_init_60  σ = some r) (hk : (fun o : zO => o = out) r) : Gj g MJ6_init (lv + 3) 60 [] [] σ out := by
  revert h
  unfold f_J6_init_60
  intro h
  cases h
  have hk : (0, ((3, 0) : zV), σ) = out := hk
  subst hk
  exact gj_vret (pc := 60) dJ6_init_60 rfl
noncomputable def f_J6_init (x0 x1 : Int) (σ : zM) : Option zO :=
  zgd (decide (0 ≤ x0)) <|
  zcv (f_J5_init x0 σ) fun σ1 =>
  if x1 ≤ 0 then
    if x1 ≠ 0 then
      none
    else
      none
  else
    (znA σ1 105 x1).bind fun σ2 =>
    (zpf σ2 2201 x0 (↑(zN σ1) : Int)).bind fun σ3 =>
    f_J6_init_60 σ3
theorem c_J6_init {g : zG} {lv : Nat} {x0 x1 : Int} {σ : zM} {out : zO} (h : f_J6_init x0 x1 σ = some out) : Cj g (lv + 3) MJ6_init [zr x0, zi x1] σ out := by
  refine cj_go (ls := [(0, zr x0), (1, zi x1)]) (by decide) (Nat.le_of_ble_eq_true rfl) rfl (zgen h (fun r hk => ?_))
  unfold f_J6_init
  refine zst_ (gj_aload_n 0 (pc := 0) dJ6_init_0 rfl) ?_
  refine gb_gd (fun hb => ?_)
  refine gb_callV (pc := 1) (as := [zr x0]) (rest := []) (zCl.of (zLk_I (M := MJ6_init) plJ5_init.1 rfl (of_decide_eq_true hb) rfl rfl dJ6_init_1 q378 q379 q380) plJ5_init (Nat.le_of_ble_eq_true rfl) (fun h => c_J5_init h)) (fun σ1 => ?_)
  refine zst_ (gj_iload_n 1 (pc := 4) dJ6_init_4 rfl) ?_
  refine gb_if (gj_if_le 19 (pc := 5) dJ6_init_5 (by decide)) ?_ ?_
  · refine zst_ (gj_iload_n 1 (pc := 19) dJ6_init_19 rfl) ?_
    refine gb_if (gj_if_ne 33 (pc := 20) dJ6_init_20 (by decide)) ?_ ?_
    · exact (fun h => by cases h)
    · refine zst_ (gj_aload_n 0 (pc := 23) dJ6_init_23 rfl) ?_
      exact (fun h => by cases h)
  · refine zst_ (gj_aload_n 0 (pc := 8) dJ6_init_8 rfl) ?_
    refine zst_ (gj_iload_n 1 (pc := 9) dJ6_init_9 rfl) ?_
    refine gb_anew (pc := 10) (k := 105) ⟨by decide, by decide⟩ rfl dJ6_init_10 q385 q386 (fun σ2 => ?_)
    refine gb_put (pc := 13) fl2201 fr2201 dJ6_init_13 q674 (Or.inl rfl) (fun σ3 => ?_)
    refine zst_ (gj_goto 60 (pc := 16) dJ6_init_16 (by decide)) ?_
    refine zst_ (gj_sub [] rfl) ?_
    exact fun h => w_J6_init_60 σ3 h hk
theorem q367 : (Jvm.Cond.code ({ cls := "LassoFinder$ModelReader", name := "<init>", desc := "(LLassoFinder$Model;)V" } : Jvm.MethodName) prog_10_method_1_code (2 : Nat) (Option.none : Option Jvm.ClassFile.FieldType)) ∈ lw_all := lw_g (lw_at lw_m2 27 rfl) rfl
theorem q368 : (Jvm.Cond.methodLink "LassoFinder$ModelReader" (3 : Nat) ({ cls := "LassoFinder$Reader", name := "<init>", desc := "(LLassoFinder$Model;)V" } : Jvm.MethodName)) ∈ lw_all := lw_g (lw_at lw_m2 28 rfl) rfl
theorem q369 : (Jvm.Cond.instanceMethod ({ cls := "LassoFinder$Reader", name := "<init>", desc := "(LLassoFinder$Model;)V" } : Jvm.MethodName)) ∈ lw_all := lw_g (lw_at lw_m2 29 rfl) rfl
theorem q373 : (Jvm.Cond.classLink "LassoFinder$ModelReader" (9 : Nat) "java/util/ArrayList") ∈ lw_all := lw_g (lw_at lw_m2 33 rfl) rfl
theorem q374 : (Jvm.Cond.instantiable "java/util/ArrayList" (3 : Nat)) ∈ lw_all := lw_g (lw_at lw_m2 34 rfl) rfl
theorem q375 : (Jvm.Cond.methodLink "LassoFinder$ModelReader" (11 : Nat) ({ cls := "java/util/ArrayList", name := "<init>", desc := "(I)V" } : Jvm.MethodName)) ∈ lw_all := lw_g (lw_at lw_m2 35 rfl) rfl
theorem q376 : (Jvm.Cond.instanceMethod ({ cls := "java/util/ArrayList", name := "<init>", desc := "(I)V" } : Jvm.MethodName)) ∈ lw_all := lw_g (lw_at lw_m2 36 rfl) rfl
abbrev cX6_init : ByteArray := prog_10_method_1_code
def yX6_init : MethodName := ⟨RX6, "<init>", "(LLassoFinder$Model;)V"⟩
theorem dX6_init_0 : decode cX6_init 0 = .ok (.aload_n 0, 1) := by decide +kernel
theorem dX6_init_1 : decode cX6_init 1 = .ok (.aload_n 1, 1) := by decide +kernel
theorem dX6_init_2 : decode cX6_init 2 = .ok (.invokespecial 3, 3) := by decide +kernel
theorem dX6_init_5 : decode cX6_init 5 = .ok (.aload_n 0, 1) := by decide +kernel
theorem dX6_init_6 : decode cX6_init 6 = .ok (.new 9, 3) := by decide +kernel
theorem dX6_init_9 : decode cX6_init 9 = .ok (.dup, 1) := by decide +kernel
theorem dX6_init_10 : decode cX6_init 10 = .ok (.bipush 120, 2) := by decide +kernel
theorem dX6_init_12 : decode cX6_init 12 = .ok (.invokespecial 11, 3) := by decide +kernel
theorem dX6_init_15 : decode cX6_init 15 = .ok (.putfield 14, 3) := by decide +kernel
theorem dX6_init_18 : decode cX6_init 18 = .ok (.return_, 1) := by decide +kernel
abbrev MX6_init : zT := (yX6_init, cX6_init, 2, (Option.none : Option Jvm.ClassFile.FieldType), [])
theorem plX6_init : zplain MX6_init 1 ∧ (zcodeW MX6_init ∈ lw_all ∧ Cond.initialized MX6_init.1.cls ∈ lw_all) := ⟨⟨by decide +kernel, by decide +kernel⟩, q367, q110⟩
noncomputable def f_X6_init (x0 x1 : Int) (σ : zM) : Option zO :=
  zgd (decide (0 ≤ x0)) <|
  zcv (f_X5_init x0 x1 σ) fun σ1 =>
  (znO σ1 22 3).bind fun σ2 =>
  zlet ((↑(zN σ1) : Int)) fun y3 =>
  zgd (decide (0 ≤ y3)) <|
  zcv (f_J6_init y3 120 σ2) fun σ4 =>
  (zpf σ4 605 x0 y3).bind fun σ5 =>
  some (0, ((3, 0) : zV), σ5)
theorem c_X6_init {g : zG} {lv : Nat} {x0 x1 : Int} {σ : zM} {out : zO} (h : f_X6_init x0 x1 σ = some out) : Cj g (lv + 4) MX6_init [zr x0, zr x1] σ out := by
  refine cj_go (ls := [(0, zr x0), (1, zr x1)]) (by decide) (Nat.le_of_ble_eq_true rfl) rfl (zgen h (fun r hk => ?_))
  unfold f_X6_init
  refine zst_ (gj_aload_n 0 (pc := 0) dX6_init_0 rfl) ?_
  refine zst_ (gj_aload_n 1 (pc := 1) dX6_init_1 rfl) ?_
  refine gb_gd (fun hb => ?_)
  refine gb_callV (pc := 2) (as := [zr x0, zr x1]) (rest := []) (zCl.of (zLk_I (M := MX6_init) plX5_init.1 rfl (of_decide_eq_true hb) rfl rfl dX6_init_2 q368 q369 q370) plX5_init (Nat.le_of_ble_eq_true rfl) (fun h => c_X5_init h)) (fun σ1 => ?_)
  refine zst_ (gj_aload_n 0 (pc := 5) dX6_init_5 rfl) ?_
  refine gb_new (pc := 6) (ci := 22) (c := (RJ6, TJ6, 3)) rfl (by decide) dX6_init_6 q373 q374 q113 (fun σ2 => ?_)
  refine gb_let (fun y3 => ?_)
  refine zst_ (gj_dup (pc := 9) dX6_init_9 rfl) ?_
  refine zst_ (gj_bipush (pc := 10) dX6_init_10 ⟨rfl, by decide⟩) ?_
  refine gb_gd (fun hb => ?_)
  refine gb_callV (pc := 12) (as := [zr y3, zi 120]) (rest := [zr y3, zr x0]) (zCl.of (zLk_I (M := MX6_init) plJ6_init.1 rfl (of_decide_eq_true hb) rfl rfl dX6_init_12 q375 q376 q377) plJ6_init (Nat.le_of_ble_eq_true rfl) (fun h => c_J6_init h)) (fun σ4 => ?_)
  refine gb_putFi (pc := 15) fl605 rfl rfl fr605 dX6_init_15 q686 (Or.inl rfl) (fun σ5 => ?_)
  intro h
  cases h
  have hk : (0, ((3, 0) : zV), σ5) = out := hk
  subst hk
  exact gj_vret (pc := 18) dX6_init_18 rfl
theorem q729 : (Jvm.Cond.code ({ cls := "LassoFinder$FormulaReader", name := "<init>", desc := "(LLassoFinder$Model;)V" } : Jvm.MethodName) prog_7_method_1_code (2 : Nat) (Option.none : Option Jvm.ClassFile.FieldType)) ∈ lw_all := lw_g (lw_at lw_m3 149 rfl) rfl
theorem q730 : (Jvm.Cond.methodLink "LassoFinder$FormulaReader" (3 : Nat) ({ cls := "LassoFinder$Reader", name := "<init>", desc := "(LLassoFinder$Model;)V" } : Jvm.MethodName)) ∈ lw_all := lw_g (lw_at lw_m3 150 rfl) rfl
theorem q732 : (Jvm.Cond.arrayOver (Jvm.ClassFile.FieldType.object "LassoFinder$Temporal")) ∈ lw_tbl := lw_at lw_m3 152 rfl
theorem q734 : (Jvm.Cond.arrayOver (Jvm.ClassFile.FieldType.object "LassoFinder$Claim")) ∈ lw_tbl := lw_at lw_m3 154 rfl
abbrev cX7_init : ByteArray := prog_7_method_1_code
def yX7_init : MethodName := ⟨RX7, "<init>", "(LLassoFinder$Model;)V"⟩
theorem dX7_init_0 : decode cX7_init 0 = .ok (.aload_n 0, 1) := by decide +kernel
theorem dX7_init_1 : decode cX7_init 1 = .ok (.aload_n 1, 1) := by decide +kernel
theorem dX7_init_2 : decode cX7_init 2 = .ok (.invokespecial 3, 3) := by decide +kernel
theorem dX7_init_5 : decode cX7_init 5 = .ok (.aload_n 0, 1) := by decide +kernel
theorem dX7_init_6 : decode cX7_init 6 = .ok (.iconst 3, 1) := by decide +kernel
theorem dX7_init_7 : decode cX7_init 7 = .ok (.anewarray 9, 3) := by decide +kernel
theorem dX7_init_10 : decode cX7_init 10 = .ok (.putfield 11, 3) := by decide +kernel
theorem dX7_init_13 : decode cX7_init 13 = .ok (.aload_n 0, 1) := by decide +kernel
theorem dX7_init_14 : decode cX7_init 14 = .ok (.bipush 8, 2) := by decide +kernel
theorem dX7_init_16 : decode cX7_init 16 = .ok (.anewarray 17, 3) := by decide +kernel
theorem dX7_init_19 : decode cX7_init 19 = .ok (.putfield 19, 3) := by decide +kernel
theorem dX7_init_22 : decode cX7_init 22 = .ok (.return_, 1) := by decide +kernel
abbrev MX7_init : zT := (yX7_init, cX7_init, 2, (Option.none : Option Jvm.ClassFile.FieldType), [])
theorem plX7_init : zplain MX7_init 1 ∧ (zcodeW MX7_init ∈ lw_all ∧ Cond.initialized MX7_init.1.cls ∈ lw_all) := ⟨⟨by decide +kernel, by decide +kernel⟩, q729, q125⟩
noncomputable def f_X7_init (x0 x1 : Int) (σ : zM) : Option zO :=
  zgd (decide (0 ≤ x0)) <|
  zcv (f_X5_init x0 x1 σ) fun σ1 =>
  (znA σ1 108 3).bind fun σ2 =>
  (zpf σ2 705 x0 (↑(zN σ1) : Int)).bind fun σ3 =>
  (znA σ3 109 8).bind fun σ4 =>
  (zpf σ4 706 x0 (↑(zN σ3) : Int)).bind fun σ5 =>
  some (0, ((3, 0) : zV), σ5)
theorem c_X7_init {g : zG} {lv : Nat} {x0 x1 : Int} {σ : zM} {out : zO} (h : f_X7_init x0 x1 σ = some out) : Cj g (lv + 2) MX7_init [zr x0, zr x1] σ out := by
  refine cj_go (ls := [(0, zr x0), (1, zr x1)]) (by decide) (Nat.le_of_ble_eq_true rfl) rfl (zgen h (fun r hk => ?_))
  unfold f_X7_init
  refine zst_ (gj_aload_n 0 (pc := 0) dX7_init_0 rfl) ?_
  refine zst_ (gj_aload_n 1 (pc := 1) dX7_init_1 rfl) ?_
  refine gb_gd (fun hb => ?_)
  refine gb_callV (pc := 2) (as := [zr x0, zr x1]) (rest := []) (zCl.of (zLk_I (M := MX7_init) plX5_init.1 rfl (of_decide_eq_true hb) rfl rfl dX7_init_2 q730 q369 q370) plX5_init (Nat.le_of_ble_eq_true rfl) (fun h => c_X5_init h)) (fun σ1 => ?_)
  refine zst_ (gj_aload_n 0 (pc := 5) dX7_init_5 rfl) ?_
  refine zst_ (gj_iconst (pc := 6) dX7_init_6 (by decide)) ?_
  refine gb_anew (pc := 7) (k := 108) ⟨by decide, by decide⟩ rfl dX7_init_7 q731 q732 (fun σ2 => ?_)
  refine gb_putFi (pc := 10) fl705 rfl rfl fr705 dX7_init_10 q735 (Or.inl rfl) (fun σ3 => ?_)
  refine zst_ (gj_aload_n 0 (pc := 13) dX7_init_13 rfl) ?_
  refine zst_ (gj_bipush (pc := 14) dX7_init_14 ⟨rfl, by decide⟩) ?_
  refine gb_anew (pc := 16) (k := 109) ⟨by decide, by decide⟩ rfl dX7_init_16 q733 q734 (fun σ4 => ?_)
  refine gb_putFi (pc := 19) fl706 rfl rfl fr706 dX7_init_19 q737 (Or.inl rfl) (fun σ5 => ?_)
  intro h
  cases h
  have hk : (0, ((3, 0) : zV), σ5) = out := hk
  subst hk
  exact gj_vret (pc := 22) dX7_init_22 rfl
theorem q763 : (Jvm.Cond.code ({ cls := "LassoFinder$Search", name := "<init>", desc := "(LLassoFinder$Model;LLassoFinder$FormulaReader;)V" } : Jvm.MethodName) prog_18_method_1_code (3 : Nat) (Option.none : Option Jvm.ClassFile.FieldType)) ∈ lw_all := lw_g (lw_at lw_m3 183 rfl) rfl
theorem q764 : (Jvm.Cond.methodLink "LassoFinder$Search" (3 : Nat) ({ cls := "java/lang/Object", name := "<init>", desc := "()V" } : Jvm.MethodName)) ∈ lw_all := lw_g (lw_at lw_m3 184 rfl) rfl
abbrev cX8_init : ByteArray := prog_18_method_1_code
def yX8_init : MethodName := ⟨RX8, "<init>", "(LLassoFinder$Model;LLassoFinder$FormulaReader;)V"⟩
theorem dX8_init_0 : decode cX8_init 0 = .ok (.aload_n 0, 1) := by decide +kernel
theorem dX8_init_1 : decode cX8_init 1 = .ok (.invokespecial 3, 3) := by decide +kernel
theorem dX8_init_4 : decode cX8_init 4 = .ok (.aload_n 0, 1) := by decide +kernel
theorem dX8_init_5 : decode cX8_init 5 = .ok (.bipush 96, 2) := by decide +kernel
theorem dX8_init_7 : decode cX8_init 7 = .ok (.newarray .int, 2) := by decide +kernel
theorem dX8_init_9 : decode cX8_init 9 = .ok (.putfield 9, 3) := by decide +kernel
theorem dX8_init_12 : decode cX8_init 12 = .ok (.aload_n 0, 1) := by decide +kernel
theorem dX8_init_13 : decode cX8_init 13 = .ok (.sipush 768, 3) := by decide +kernel
theorem dX8_init_16 : decode cX8_init 16 = .ok (.newarray .int, 2) := by decide +kernel
theorem dX8_init_18 : decode cX8_init 18 = .ok (.putfield 15, 3) := by decide +kernel
theorem dX8_init_21 : decode cX8_init 21 = .ok (.aload_n 0, 1) := by decide +kernel
theorem dX8_init_22 : decode cX8_init 22 = .ok (.sipush 768, 3) := by decide +kernel
theorem dX8_init_25 : decode cX8_init 25 = .ok (.newarray .int, 2) := by decide +kernel
theorem dX8_init_27 : decode cX8_init 27 = .ok (.putfield 18, 3) := by decide +kernel
theorem dX8_init_30 : decode cX8_init 30 = .ok (.aload_n 0, 1) := by decide +kernel
theorem dX8_init_31 : decode cX8_init 31 = .ok (.bipush 96, 2) := by decide +kernel
theorem dX8_init_33 : decode cX8_init 33 = .ok (.newarray .int, 2) := by decide +kernel
theorem dX8_init_35 : decode cX8_init 35 = .ok (.putfield 21, 3) := by decide +kernel
theorem dX8_init_38 : decode cX8_init 38 = .ok (.aload_n 0, 1) := by decide +kernel
theorem dX8_init_39 : decode cX8_init 39 = .ok (.sipush 400, 3) := by decide +kernel
theorem dX8_init_42 : decode cX8_init 42 = .ok (.newarray .int, 2) := by decide +kernel
theorem dX8_init_44 : decode cX8_init 44 = .ok (.putfield 24, 3) := by decide +kernel
theorem dX8_init_47 : decode cX8_init 47 = .ok (.aload_n 0, 1) := by decide +kernel
theorem dX8_init_48 : decode cX8_init 48 = .ok (.sipush 768, 3) := by decide +kernel
theorem dX8_init_51 : decode cX8_init 51 = .ok (.newarray .int, 2) := by decide +kernel
theorem dX8_init_53 : decode cX8_init 53 = .ok (.putfield 27, 3) := by decide +kernel
theorem dX8_init_56 : decode cX8_init 56 = .ok (.aload_n 0, 1) := by decide +kernel
theorem dX8_init_57 : decode cX8_init 57 = .ok (.sipush 768, 3) := by decide +kernel
theorem dX8_init_60 : decode cX8_init 60 = .ok (.newarray .int, 2) := by decide +kernel
theorem dX8_init_62 : decode cX8_init 62 = .ok (.putfield 30, 3) := by decide +kernel
theorem dX8_init_65 : decode cX8_init 65 = .ok (.aload_n 0, 1) := by decide +kernel
theorem dX8_init_66 : decode cX8_init 66 = .ok (.sipush 768, 3) := by decide +kernel
theorem dX8_init_69 : decode cX8_init 69 = .ok (.newarray .int, 2) := by decide +kernel
theorem dX8_init_71 : decode cX8_init 71 = .ok (.putfield 33, 3) := by decide +kernel
theorem dX8_init_74 : decode cX8_init 74 = .ok (.aload_n 0, 1) := by decide +kernel
theorem dX8_init_75 : decode cX8_init 75 = .ok (.sipush 768, 3) := by decide +kernel
theorem dX8_init_78 : decode cX8_init 78 = .ok (.newarray .int, 2) := by decide +kernel
theorem dX8_init_80 : decode cX8_init 80 = .ok (.putfield 36, 3) := by decide +kernel
theorem dX8_init_83 : decode cX8_init 83 = .ok (.aload_n 0, 1) := by decide +kernel
theorem dX8_init_84 : decode cX8_init 84 = .ok (.sipush 768, 3) := by decide +kernel
theorem dX8_init_87 : decode cX8_init 87 = .ok (.newarray .int, 2) := by decide +kernel
theorem dX8_init_89 : decode cX8_init 89 = .ok (.putfield 39, 3) := by decide +kernel
theorem dX8_init_92 : decode cX8_init 92 = .ok (.aload_n 0, 1) := by decide +kernel
theorem dX8_init_93 : decode cX8_init 93 = .ok (.sipush 768, 3) := by decide +kernel
theorem dX8_init_96 : decode cX8_init 96 = .ok (.newarray .boolean, 2) := by decide +kernel
theorem dX8_init_98 : decode cX8_init 98 = .ok (.putfield 42, 3) := by decide +kernel
theorem dX8_init_101 : decode cX8_init 101 = .ok (.aload_n 0, 1) := by decide +kernel
theorem dX8_init_102 : decode cX8_init 102 = .ok (.sipush 768, 3) := by decide +kernel
theorem dX8_init_105 : decode cX8_init 105 = .ok (.newarray .int, 2) := by decide +kernel
theorem dX8_init_107 : decode cX8_init 107 = .ok (.putfield 46, 3) := by decide +kernel
theorem dX8_init_110 : decode cX8_init 110 = .ok (.aload_n 0, 1) := by decide +kernel
theorem dX8_init_111 : decode cX8_init 111 = .ok (.sipush 6144, 3) := by decide +kernel
theorem dX8_init_114 : decode cX8_init 114 = .ok (.newarray .int, 2) := by decide +kernel
theorem dX8_init_116 : decode cX8_init 116 = .ok (.putfield 49, 3) := by decide +kernel
theorem dX8_init_119 : decode cX8_init 119 = .ok (.aload_n 0, 1) := by decide +kernel
theorem dX8_init_120 : decode cX8_init 120 = .ok (.sipush 6144, 3) := by decide +kernel
theorem dX8_init_123 : decode cX8_init 123 = .ok (.newarray .int, 2) := by decide +kernel
theorem dX8_init_125 : decode cX8_init 125 = .ok (.putfield 52, 3) := by decide +kernel
theorem dX8_init_128 : decode cX8_init 128 = .ok (.aload_n 0, 1) := by decide +kernel
theorem dX8_init_129 : decode cX8_init 129 = .ok (.sipush 768, 3) := by decide +kernel
theorem dX8_init_132 : decode cX8_init 132 = .ok (.newarray .int, 2) := by decide +kernel
theorem dX8_init_134 : decode cX8_init 134 = .ok (.putfield 55, 3) := by decide +kernel
theorem dX8_init_137 : decode cX8_init 137 = .ok (.aload_n 0, 1) := by decide +kernel
theorem dX8_init_138 : decode cX8_init 138 = .ok (.sipush 3840, 3) := by decide +kernel
theorem dX8_init_141 : decode cX8_init 141 = .ok (.newarray .int, 2) := by decide +kernel
theorem dX8_init_143 : decode cX8_init 143 = .ok (.putfield 58, 3) := by decide +kernel
theorem dX8_init_146 : decode cX8_init 146 = .ok (.aload_n 0, 1) := by decide +kernel
theorem dX8_init_147 : decode cX8_init 147 = .ok (.sipush 3840, 3) := by decide +kernel
theorem dX8_init_150 : decode cX8_init 150 = .ok (.newarray .int, 2) := by decide +kernel
theorem dX8_init_152 : decode cX8_init 152 = .ok (.putfield 61, 3) := by decide +kernel
theorem dX8_init_155 : decode cX8_init 155 = .ok (.aload_n 0, 1) := by decide +kernel
theorem dX8_init_156 : decode cX8_init 156 = .ok (.aload_n 1, 1) := by decide +kernel
theorem dX8_init_157 : decode cX8_init 157 = .ok (.putfield 64, 3) := by decide +kernel
theorem dX8_init_160 : decode cX8_init 160 = .ok (.aload_n 0, 1) := by decide +kernel
theorem dX8_init_161 : decode cX8_init 161 = .ok (.aload_n 2, 1) := by decide +kernel
theorem dX8_init_162 : decode cX8_init 162 = .ok (.putfield 68, 3) := by decide +kernel
theorem dX8_init_165 : decode cX8_init 165 = .ok (.return_, 1) := by decide +kernel
abbrev MX8_init : zT := (yX8_init, cX8_init, 3, (Option.none : Option Jvm.ClassFile.FieldType), [])
theorem plX8_init : zplain MX8_init 2 ∧ (zcodeW MX8_init ∈ lw_all ∧ Cond.initialized MX8_init.1.cls ∈ lw_all) := ⟨⟨by decide +kernel, by decide +kernel⟩, q763, q126⟩
noncomputable def f_X8_init (x0 x1 x2 : Int) (σ : zM) : Option zO :=
  zgd (decide (0 ≤ x0)) <|
  (znA σ 101 96).bind fun σ1 =>
  (zpf σ1 802 x0 (↑(zN σ) : Int)).bind fun σ2 =>
  (znA σ2 101 768).bind fun σ3 =>
  (zpf σ3 803 x0 (↑(zN σ2) : Int)).bind fun σ4 =>
  (znA σ4 101 768).bind fun σ5 =>
  (zpf σ5 804 x0 (↑(zN σ4) : Int)).bind fun σ6 =>
  (znA σ6 101 96).bind fun σ7 =>
  (zpf σ7 805 x0 (↑(zN σ6) : Int)).bind fun σ8 =>
  (znA σ8 101 400).bind fun σ9 =>
  (zpf σ9 806 x0 (↑(zN σ8) : Int)).bind fun σ10 =>
  (znA σ10 101 768).bind fun σ11 =>
  (zpf σ11 807 x0 (↑(zN σ10) : Int)).bind fun σ12 =>
  (znA σ12 101 768).bind fun σ13 =>
  (zpf σ13 808 x0 (↑(zN σ12) : Int)).bind fun σ14 =>
  (znA σ14 101 768).bind fun σ15 =>
  (zpf σ15 809 x0 (↑(zN σ14) : Int)).bind fun σ16 =>
  (znA σ16 101 768).bind fun σ17 =>
  (zpf σ17 810 x0 (↑(zN σ16) : Int)).bind fun σ18 =>
  (znA σ18 101 768).bind fun σ19 =>
  (zpf σ19 811 x0 (↑(zN σ18) : Int)).bind fun σ20 =>
  (znA σ20 103 768).bind fun σ21 =>
  (zpf σ21 812 x0 (↑(zN σ20) : Int)).bind fun σ22 =>
  (znA σ22 101 768).bind fun σ23 =>
  (zpf σ23 815 x0 (↑(zN σ22) : Int)).bind fun σ24 =>
  (znA σ24 101 6144).bind fun σ25 =>
  (zpf σ25 816 x0 (↑(zN σ24) : Int)).bind fun σ26 =>
  (znA σ26 101 6144).bind fun σ27 =>
  (zpf σ27 817 x0 (↑(zN σ26) : Int)).bind fun σ28 =>
  (znA σ28 101 768).bind fun σ29 =>
  (zpf σ29 818 x0 (↑(zN σ28) : Int)).bind fun σ30 =>
  (znA σ30 101 3840).bind fun σ31 =>
  (zpf σ31 819 x0 (↑(zN σ30) : Int)).bind fun σ32 =>
  (znA σ32 101 3840).bind fun σ33 =>
  (zpf σ33 820 x0 (↑(zN σ32) : Int)).bind fun σ34 =>
  (zpf σ34 800 x0 x1).bind fun σ35 =>
  (zpf σ35 801 x0 x2).bind fun σ36 =>
  some (0, ((3, 0) : zV), σ36)
theorem c_X8_init {g : zG} {lv : Nat} {x0 x1 x2 : Int} {σ : zM} {out : zO} (h : f_X8_init x0 x1 x2 σ = some out) : Cj g (lv + 1) MX8_init [zr x0, zr x1, zr x2] σ out := by
  refine cj_go (ls := [(0, zr x0), (1, zr x1), (2, zr x2)]) (by decide) (Nat.le_of_ble_eq_true rfl) rfl (zgen h (fun r hk => ?_))
  unfold f_X8_init
  refine zst_ (gj_aload_n 0 (pc := 0) dX8_init_0 rfl) ?_
  refine gb_gd (fun hb => ?_)
  refine zst_ (gj_obj (pc := 1) (of_decide_eq_true hb) dX8_init_1 q764 q152 q153 (by omega) (Nat.le_of_ble_eq_true rfl)) ?_
  refine zst_ (gj_aload_n 0 (pc := 4) dX8_init_4 rfl) ?_
  refine zst_ (gj_bipush (pc := 5) dX8_init_5 ⟨rfl, by decide⟩) ?_
  refine gb_newa (pc := 7) (k := 101) ⟨by decide, by decide⟩ rfl dX8_init_7 q228 (fun σ1 => ?_)
  refine gb_putFi (pc := 9) fl802 rfl rfl fr802 dX8_init_9 q767 (Or.inl rfl) (fun σ2 => ?_)
  refine zst_ (gj_aload_n 0 (pc := 12) dX8_init_12 rfl) ?_
  refine zst_ (gj_sipush (pc := 13) dX8_init_13 ⟨rfl, by decide⟩) ?_
  refine gb_newa (pc := 16) (k := 101) ⟨by decide, by decide⟩ rfl dX8_init_16 q228 (fun σ3 => ?_)
  refine gb_putFi (pc := 18) fl803 rfl rfl fr803 dX8_init_18 q768 (Or.inl rfl) (fun σ4 => ?_)
  refine zst_ (gj_aload_n 0 (pc := 21) dX8_init_21 rfl) ?_
  refine zst_ (gj_sipush (pc := 22) dX8_init_22 ⟨rfl, by decide⟩) ?_
  refine gb_newa (pc := 25) (k := 101) ⟨by decide, by decide⟩ rfl dX8_init_25 q228 (fun σ5 => ?_)
  refine gb_putFi (pc := 27) fl804 rfl rfl fr804 dX8_init_27 q769 (Or.inl rfl) (fun σ6 => ?_)
  refine zst_ (gj_aload_n 0 (pc := 30) dX8_init_30 rfl) ?_
  refine zst_ (gj_bipush (pc := 31) dX8_init_31 ⟨rfl, by decide⟩) ?_
  refine gb_newa (pc := 33) (k := 101) ⟨by decide, by decide⟩ rfl dX8_init_33 q228 (fun σ7 => ?_)
  refine gb_putFi (pc := 35) fl805 rfl rfl fr805 dX8_init_35 q770 (Or.inl rfl) (fun σ8 => ?_)
  refine zst_ (gj_aload_n 0 (pc := 38) dX8_init_38 rfl) ?_
  refine zst_ (gj_sipush (pc := 39) dX8_init_39 ⟨rfl, by decide⟩) ?_
  refine gb_newa (pc := 42) (k := 101) ⟨by decide, by decide⟩ rfl dX8_init_42 q228 (fun σ9 => ?_)
  refine gb_putFi (pc := 44) fl806 rfl rfl fr806 dX8_init_44 q771 (Or.inl rfl) (fun σ10 => ?_)
  refine zst_ (gj_aload_n 0 (pc := 47) dX8_init_47 rfl) ?_
  refine zst_ (gj_sipush (pc := 48) dX8_init_48 ⟨rfl, by decide⟩) ?_
  refine gb_newa (pc := 51) (k := 101) ⟨by decide, by decide⟩ rfl dX8_init_51 q228 (fun σ11 => ?_)
  refine gb_putFi (pc := 53) fl807 rfl rfl fr807 dX8_init_53 q772 (Or.inl rfl) (fun σ12 => ?_)
  refine zst_ (gj_aload_n 0 (pc := 56) dX8_init_56 rfl) ?_
  refine zst_ (gj_sipush (pc := 57) dX8_init_57 ⟨rfl, by decide⟩) ?_
  refine gb_newa (pc := 60) (k := 101) ⟨by decide, by decide⟩ rfl dX8_init_60 q228 (fun σ13 => ?_)
  refine gb_putFi (pc := 62) fl808 rfl rfl fr808 dX8_init_62 q773 (Or.inl rfl) (fun σ14 => ?_)
  refine zst_ (gj_aload_n 0 (pc := 65) dX8_init_65 rfl) ?_
  refine zst_ (gj_sipush (pc := 66) dX8_init_66 ⟨rfl, by decide⟩) ?_
  refine gb_newa (pc := 69) (k := 101) ⟨by decide, by decide⟩ rfl dX8_init_69 q228 (fun σ15 => ?_)
  refine gb_putFi (pc := 71) fl809 rfl rfl fr809 dX8_init_71 q774 (Or.inl rfl) (fun σ16 => ?_)
  refine zst_ (gj_aload_n 0 (pc := 74) dX8_init_74 rfl) ?_
  refine zst_ (gj_sipush (pc := 75) dX8_init_75 ⟨rfl, by decide⟩) ?_
  refine gb_newa (pc := 78) (k := 101) ⟨by decide, by decide⟩ rfl dX8_init_78 q228 (fun σ17 => ?_)
  refine gb_putFi (pc := 80) fl810 rfl rfl fr810 dX8_init_80 q775 (Or.inl rfl) (fun σ18 => ?_)
  refine zst_ (gj_aload_n 0 (pc := 83) dX8_init_83 rfl) ?_
  refine zst_ (gj_sipush (pc := 84) dX8_init_84 ⟨rfl, by decide⟩) ?_
  refine gb_newa (pc := 87) (k := 101) ⟨by decide, by decide⟩ rfl dX8_init_87 q228 (fun σ19 => ?_)
  refine gb_putFi (pc := 89) fl811 rfl rfl fr811 dX8_init_89 q776 (Or.inl rfl) (fun σ20 => ?_)
  refine zst_ (gj_aload_n 0 (pc := 92) dX8_init_92 rfl) ?_
  refine zst_ (gj_sipush (pc := 93) dX8_init_93 ⟨rfl, by decide⟩) ?_
  refine gb_newa (pc := 96) (k := 103) ⟨by decide, by decide⟩ rfl dX8_init_96 q229 (fun σ21 => ?_)
  refine gb_putFi (pc := 98) fl812 rfl rfl fr812 dX8_init_98 q777 (Or.inl rfl) (fun σ22 => ?_)
  refine zst_ (gj_aload_n 0 (pc := 101) dX8_init_101 rfl) ?_
  refine zst_ (gj_sipush (pc := 102) dX8_init_102 ⟨rfl, by decide⟩) ?_
  refine gb_newa (pc := 105) (k := 101) ⟨by decide, by decide⟩ rfl dX8_init_105 q228 (fun σ23 => ?_)
  refine gb_putFi (pc := 107) fl815 rfl rfl fr815 dX8_init_107 q780 (Or.inl rfl) (fun σ24 => ?_)
  refine zst_ (gj_aload_n 0 (pc := 110) dX8_init_110 rfl) ?_
  refine zst_ (gj_sipush (pc := 111) dX8_init_111 ⟨rfl, by decide⟩) ?_
  refine gb_newa (pc := 114) (k := 101) ⟨by decide, by decide⟩ rfl dX8_init_114 q228 (fun σ25 => ?_)
  refine gb_putFi (pc := 116) fl816 rfl rfl fr816 dX8_init_116 q781 (Or.inl rfl) (fun σ26 => ?_)
  refine zst_ (gj_aload_n 0 (pc := 119) dX8_init_119 rfl) ?_
  refine zst_ (gj_sipush (pc := 120) dX8_init_120 ⟨rfl, by decide⟩) ?_
  refine gb_newa (pc := 123) (k := 101) ⟨by decide, by decide⟩ rfl dX8_init_123 q228 (fun σ27 => ?_)
  refine gb_putFi (pc := 125) fl817 rfl rfl fr817 dX8_init_125 q782 (Or.inl rfl) (fun σ28 => ?_)
  refine zst_ (gj_aload_n 0 (pc := 128) dX8_init_128 rfl) ?_
  refine zst_ (gj_sipush (pc := 129) dX8_init_129 ⟨rfl, by decide⟩) ?_
  refine gb_newa (pc := 132) (k := 101) ⟨by decide, by decide⟩ rfl dX8_init_132 q228 (fun σ29 => ?_)
  refine gb_putFi (pc := 134) fl818 rfl rfl fr818 dX8_init_134 q783 (Or.inl rfl) (fun σ30 => ?_)
  refine zst_ (gj_aload_n 0 (pc := 137) dX8_init_137 rfl) ?_
  refine zst_ (gj_sipush (pc := 138) dX8_init_138 ⟨rfl, by decide⟩) ?_
  refine gb_newa (pc := 141) (k := 101) ⟨by decide, by decide⟩ rfl dX8_init_141 q228 (fun σ31 => ?_)
  refine gb_putFi (pc := 143) fl819 rfl rfl fr819 dX8_init_143 q785 (Or.inl rfl) (fun σ32 => ?_)
  refine zst_ (gj_aload_n 0 (pc := 146) dX8_init_146 rfl) ?_
  refine zst_ (gj_sipush (pc := 147) dX8_init_147 ⟨rfl, by decide⟩) ?_
  refine gb_newa (pc := 150) (k := 101) ⟨by decide, by decide⟩ rfl dX8_init_150 q228 (fun σ33 => ?_)
  refine gb_putFi (pc := 152) fl820 rfl rfl fr820 dX8_init_152 q787 (Or.inl rfl) (fun σ34 => ?_)
  refine zst_ (gj_aload_n 0 (pc := 155) dX8_init_155 rfl) ?_
  refine zst_ (gj_aload_n 1 (pc := 156) dX8_init_156 rfl) ?_
  refine gb_putFi (pc := 157) fl800 rfl rfl fr800 dX8_init_157 q765 (Or.inl rfl) (fun σ35 => ?_)
  refine zst_ (gj_aload_n 0 (pc := 160) dX8_init_160 rfl) ?_
  refine zst_ (gj_aload_n 2 (pc := 161) dX8_init_161 rfl) ?_
  refine gb_putFi (pc := 162) fl801 rfl rfl fr801 dX8_init_162 q766 (Or.inl rfl) (fun σ36 => ?_)
  intro h
  cases h
  have hk : (0, ((3, 0) : zV), σ36) = out := hk
  subst hk
  exact gj_vret (pc := 165) dX8_init_165 rfl
theorem q150 : (Jvm.Cond.code ({ cls := "LassoFinder", name := "<init>", desc := "()V" } : Jvm.MethodName) prog_1_method_1_code (1 : Nat) (Option.none : Option Jvm.ClassFile.FieldType)) ∈ lw_all := lw_g (lw_at lw_m1 50 rfl) rfl
theorem q151 : (Jvm.Cond.methodLink "LassoFinder" (3 : Nat) ({ cls := "java/lang/Object", name := "<init>", desc := "()V" } : Jvm.MethodName)) ∈ lw_all := lw_g (lw_at lw_m1 51 rfl) rfl
theorem q154 : (Jvm.Cond.classLink "LassoFinder" (9 : Nat) "java/lang/StringBuilder") ∈ lw_all := lw_g (lw_at lw_m1 54 rfl) rfl
theorem q155 : (Jvm.Cond.instantiable "java/lang/StringBuilder" (4 : Nat)) ∈ lw_all := lw_g (lw_at lw_m1 55 rfl) rfl
theorem q156 : (Jvm.Cond.methodLink "LassoFinder" (11 : Nat) ({ cls := "java/lang/StringBuilder", name := "<init>", desc := "()V" } : Jvm.MethodName)) ∈ lw_all := lw_g (lw_at lw_m1 56 rfl) rfl
theorem q157 : (Jvm.Cond.instanceMethod ({ cls := "java/lang/StringBuilder", name := "<init>", desc := "()V" } : Jvm.MethodName)) ∈ lw_all := lw_g (lw_at lw_m1 57 rfl) rfl
theorem q187 : (Jvm.Cond.classLink "LassoFinder" (16 : Nat) "LassoFinder$Model") ∈ lw_all := lw_g (lw_at lw_m1 87 rfl) rfl
theorem q188 : (Jvm.Cond.instantiable "LassoFinder$Model" (22 : Nat)) ∈ lw_all := lw_g (lw_at lw_m1 88 rfl) rfl
theorem q189 : (Jvm.Cond.methodLink "LassoFinder" (18 : Nat) ({ cls := "LassoFinder$Model", name := "<init>", desc := "()V" } : Jvm.MethodName)) ∈ lw_all := lw_g (lw_at lw_m1 89 rfl) rfl
theorem q190 : (Jvm.Cond.instanceMethod ({ cls := "LassoFinder$Model", name := "<init>", desc := "()V" } : Jvm.MethodName)) ∈ lw_all := lw_g (lw_at lw_m1 90 rfl) rfl
theorem q363 : (Jvm.Cond.classLink "LassoFinder" (23 : Nat) "LassoFinder$ModelReader") ∈ lw_all := lw_g (lw_at lw_m2 23 rfl) rfl
theorem q364 : (Jvm.Cond.instantiable "LassoFinder$ModelReader" (8 : Nat)) ∈ lw_all := lw_g (lw_at lw_m2 24 rfl) rfl
theorem q365 : (Jvm.Cond.methodLink "LassoFinder" (25 : Nat) ({ cls := "LassoFinder$ModelReader", name := "<init>", desc := "(LLassoFinder$Model;)V" } : Jvm.MethodName)) ∈ lw_all := lw_g (lw_at lw_m2 25 rfl) rfl
theorem q366 : (Jvm.Cond.instanceMethod ({ cls := "LassoFinder$ModelReader", name := "<init>", desc := "(LLassoFinder$Model;)V" } : Jvm.MethodName)) ∈ lw_all := lw_g (lw_at lw_m2 26 rfl) rfl
theorem q725 : (Jvm.Cond.classLink "LassoFinder" (32 : Nat) "LassoFinder$FormulaReader") ∈ lw_all := lw_g (lw_at lw_m3 145 rfl) rfl
theorem q726 : (Jvm.Cond.instantiable "LassoFinder$FormulaReader" (10 : Nat)) ∈ lw_all := lw_g (lw_at lw_m3 146 rfl) rfl
theorem q727 : (Jvm.Cond.methodLink "LassoFinder" (34 : Nat) ({ cls := "LassoFinder$FormulaReader", name := "<init>", desc := "(LLassoFinder$Model;)V" } : Jvm.MethodName)) ∈ lw_all := lw_g (lw_at lw_m3 147 rfl) rfl
theorem q728 : (Jvm.Cond.instanceMethod ({ cls := "LassoFinder$FormulaReader", name := "<init>", desc := "(LLassoFinder$Model;)V" } : Jvm.MethodName)) ∈ lw_all := lw_g (lw_at lw_m3 148 rfl) rfl
theorem q759 : (Jvm.Cond.classLink "LassoFinder" (39 : Nat) "LassoFinder$Search") ∈ lw_all := lw_g (lw_at lw_m3 179 rfl) rfl
theorem q760 : (Jvm.Cond.instantiable "LassoFinder$Search" (23 : Nat)) ∈ lw_all := lw_g (lw_at lw_m3 180 rfl) rfl
theorem q761 : (Jvm.Cond.methodLink "LassoFinder" (41 : Nat) ({ cls := "LassoFinder$Search", name := "<init>", desc := "(LLassoFinder$Model;LLassoFinder$FormulaReader;)V" } : Jvm.MethodName)) ∈ lw_all := lw_g (lw_at lw_m3 181 rfl) rfl
theorem q762 : (Jvm.Cond.instanceMethod ({ cls := "LassoFinder$Search", name := "<init>", desc := "(LLassoFinder$Model;LLassoFinder$FormulaReader;)V" } : Jvm.MethodName)) ∈ lw_all := lw_g (lw_at lw_m3 182 rfl) rfl
theorem q839 : (Jvm.Cond.classLink "LassoFinder" (59 : Nat) "LassoFinder$Moment") ∈ lw_all := lw_g (lw_at lw_m4 19 rfl) rfl
theorem q840 : (Jvm.Cond.methodLinkNest "LassoFinder" (61 : Nat) ({ cls := "LassoFinder$Moment", name := "<init>", desc := "()V" } : Jvm.MethodName) "LassoFinder") ∈ lw_tbl := lw_at lw_m4 20 rfl
abbrev cX1_init : ByteArray := prog_1_method_1_code
def yX1_init : MethodName := ⟨RX1, "<init>", "()V"⟩
theorem dX1_init_0 : decode cX1_init 0 = .ok (.aload_n 0, 1) := by decide +kernel
theorem dX1_init_1 : decode cX1_init 1 = .ok (.invokespecial 3, 3) := by decide +kernel
theorem dX1_init_4 : decode cX1_init 4 = .ok (.aload_n 0, 1) := by decide +kernel
theorem dX1_init_5 : decode cX1_init 5 = .ok (.new 9, 3) := by decide +kernel
theorem dX1_init_8 : decode cX1_init 8 = .ok (.dup, 1) := by decide +kernel
theorem dX1_init_9 : decode cX1_init 9 = .ok (.invokespecial 11, 3) := by decide +kernel
theorem dX1_init_12 : decode cX1_init 12 = .ok (.putfield 12, 3) := by decide +kernel
theorem dX1_init_15 : decode cX1_init 15 = .ok (.aload_n 0, 1) := by decide +kernel
theorem dX1_init_16 : decode cX1_init 16 = .ok (.new 16, 3) := by decide +kernel
theorem dX1_init_19 : decode cX1_init 19 = .ok (.dup, 1) := by decide +kernel
theorem dX1_init_20 : decode cX1_init 20 = .ok (.invokespecial 18, 3) := by decide +kernel
theorem dX1_init_23 : decode cX1_init 23 = .ok (.putfield 19, 3) := by decide +kernel
theorem dX1_init_26 : decode cX1_init 26 = .ok (.aload_n 0, 1) := by decide +kernel
theorem dX1_init_27 : decode cX1_init 27 = .ok (.new 23, 3) := by decide +kernel
theorem dX1_init_30 : decode cX1_init 30 = .ok (.dup, 1) := by decide +kernel
theorem dX1_init_31 : decode cX1_init 31 = .ok (.aload_n 0, 1) := by decide +kernel
theorem dX1_init_32 : decode cX1_init 32 = .ok (.getfield 19, 3) := by decide +kernel
theorem dX1_init_35 : decode cX1_init 35 = .ok (.invokespecial 25, 3) := by decide +kernel
theorem dX1_init_38 : decode cX1_init 38 = .ok (.putfield 28, 3) := by decide +kernel
theorem dX1_init_41 : decode cX1_init 41 = .ok (.aload_n 0, 1) := by decide +kernel
theorem dX1_init_42 : decode cX1_init 42 = .ok (.new 32, 3) := by decide +kernel
theorem dX1_init_45 : decode cX1_init 45 = .ok (.dup, 1) := by decide +kernel
theorem dX1_init_46 : decode cX1_init 46 = .ok (.aload_n 0, 1) := by decide +kernel
theorem dX1_init_47 : decode cX1_init 47 = .ok (.getfield 19, 3) := by decide +kernel
theorem dX1_init_50 : decode cX1_init 50 = .ok (.invokespecial 34, 3) := by decide +kernel
theorem dX1_init_53 : decode cX1_init 53 = .ok (.putfield 35, 3) := by decide +kernel
theorem dX1_init_56 : decode cX1_init 56 = .ok (.aload_n 0, 1) := by decide +kernel
theorem dX1_init_57 : decode cX1_init 57 = .ok (.new 39, 3) := by decide +kernel
theorem dX1_init_60 : decode cX1_init 60 = .ok (.dup, 1) := by decide +kernel
theorem dX1_init_61 : decode cX1_init 61 = .ok (.aload_n 0, 1) := by decide +kernel
theorem dX1_init_62 : decode cX1_init 62 = .ok (.getfield 19, 3) := by decide +kernel
theorem dX1_init_65 : decode cX1_init 65 = .ok (.aload_n 0, 1) := by decide +kernel
theorem dX1_init_66 : decode cX1_init 66 = .ok (.getfield 35, 3) := by decide +kernel
theorem dX1_init_69 : decode cX1_init 69 = .ok (.invokespecial 41, 3) := by decide +kernel
theorem dX1_init_72 : decode cX1_init 72 = .ok (.putfield 44, 3) := by decide +kernel
theorem dX1_init_75 : decode cX1_init 75 = .ok (.aload_n 0, 1) := by decide +kernel
theorem dX1_init_76 : decode cX1_init 76 = .ok (.iconst (-1), 1) := by decide +kernel
theorem dX1_init_77 : decode cX1_init 77 = .ok (.putfield 48, 3) := by decide +kernel
theorem dX1_init_80 : decode cX1_init 80 = .ok (.aload_n 0, 1) := by decide +kernel
theorem dX1_init_81 : decode cX1_init 81 = .ok (.bipush 61, 2) := by decide +kernel
theorem dX1_init_83 : decode cX1_init 83 = .ok (.newarray .int, 2) := by decide +kernel
theorem dX1_init_85 : decode cX1_init 85 = .ok (.putfield 52, 3) := by decide +kernel
theorem dX1_init_88 : decode cX1_init 88 = .ok (.aload_n 0, 1) := by decide +kernel
theorem dX1_init_89 : decode cX1_init 89 = .ok (.iconst (-1), 1) := by decide +kernel
theorem dX1_init_90 : decode cX1_init 90 = .ok (.putfield 56, 3) := by decide +kernel
theorem dX1_init_93 : decode cX1_init 93 = .ok (.aload_n 0, 1) := by decide +kernel
theorem dX1_init_94 : decode cX1_init 94 = .ok (.new 59, 3) := by decide +kernel
theorem dX1_init_97 : decode cX1_init 97 = .ok (.dup, 1) := by decide +kernel
theorem dX1_init_98 : decode cX1_init 98 = .ok (.invokespecial 61, 3) := by decide +kernel
theorem dX1_init_101 : decode cX1_init 101 = .ok (.putfield 62, 3) := by decide +kernel
theorem dX1_init_104 : decode cX1_init 104 = .ok (.return_, 1) := by decide +kernel
abbrev MX1_init : zT := (yX1_init, cX1_init, 1, (Option.none : Option Jvm.ClassFile.FieldType), [])
theorem plX1_init : zplain MX1_init 0 ∧ (zcodeW MX1_init ∈ lw_all ∧ Cond.initialized MX1_init.1.cls ∈ lw_all) := ⟨⟨by decide +kernel, by decide +kernel⟩, q150, q101⟩
noncomputable def f_X1_init (x0 : Int) (σ : zM) : Option zO :=
  zgd (decide (0 ≤ x0)) <|
  (znO σ 20 4).bind fun σ1 =>
  zlet ((↑(zN σ) : Int)) fun y2 =>
  zgd (decide (0 ≤ y2)) <|
  zcv (f_J1_init y2 σ1) fun σ3 =>
  (zpf σ3 100 x0 y2).bind fun σ4 =>
  (znO σ4 2 22).bind fun σ5 =>
  zlet ((↑(zN σ4) : Int)) fun y6 =>
  zgd (decide (0 ≤ y6)) <|
  zcv (f_X2_init y6 σ5) fun σ7 =>
  (zpf σ7 101 x0 y6).bind fun σ8 =>
  (znO σ8 6 8).bind fun σ9 =>
  zlet ((↑(zN σ8) : Int)) fun y10 =>
  (zgf σ9 101 x0).bind fun v11 =>
  zgd (decide (0 ≤ y10)) <|
  zcv (f_X6_init y10 v11 σ9) fun σ12 =>
  (zpf σ12 102 x0 y10).bind fun σ13 =>
  (znO σ13 7 10).bind fun σ14 =>
  zlet ((↑(zN σ13) : Int)) fun y15 =>
  (zgf σ14 101 x0).bind fun v16 =>
  zgd (decide (0 ≤ y15)) <|
  zcv (f_X7_init y15 v16 σ14) fun σ17 =>
  (zpf σ17 103 x0 y15).bind fun σ18 =>
  (znO σ18 8 23).bind fun σ19 =>
  zlet ((↑(zN σ18) : Int)) fun y20 =>
  (zgf σ19 101 x0).bind fun v21 =>
  (zgf σ19 103 x0).bind fun v22 =>
  zgd (decide (0 ≤ y20)) <|
  zcv (f_X8_init y20 v21 v22 σ19) fun σ23 =>
  (zpf σ23 104 x0 y20).bind fun σ24 =>
  (zpf σ24 108 x0 (-1)).bind fun σ25 =>
  (znA σ25 101 61).bind fun σ26 =>
  (zpf σ26 109 x0 (↑(zN σ25) : Int)).bind fun σ27 =>
  (zpf σ27 110 x0 (-1)).bind fun σ28 =>
  (znO σ28 3 4).bind fun σ29 =>
  zlet ((↑(zN σ28) : Int)) fun y30 =>
  zgd (decide (0 ≤ y30)) <|
  zcv (f_X3_init y30 σ29) fun σ31 =>
  (zpf σ31 111 x0 y30).bind fun σ32 =>
  some (0, ((3, 0) : zV), σ32)
theorem c_X1_init {g : zG} {lv : Nat} {x0 : Int} {σ : zM} {out : zO} (h : f_X1_init x0 σ = some out) : Cj g (lv + 5) MX1_init [zr x0] σ out := by
  refine cj_go (ls := [(0, zr x0)]) (by decide) (Nat.le_of_ble_eq_true rfl) rfl (zgen h (fun r hk => ?_))
  unfold f_X1_init
  refine zst_ (gj_aload_n 0 (pc := 0) dX1_init_0 rfl) ?_
  refine gb_gd (fun hb => ?_)
  refine zst_ (gj_obj (pc := 1) (of_decide_eq_true hb) dX1_init_1 q151 q152 q153 (by omega) (Nat.le_of_ble_eq_true rfl)) ?_
  refine zst_ (gj_aload_n 0 (pc := 4) dX1_init_4 rfl) ?_
  refine gb_new (pc := 5) (ci := 20) (c := (RJ1, TJ1, 4)) rfl (by decide) dX1_init_5 q154 q155 q103 (fun σ1 => ?_)
  refine gb_let (fun y2 => ?_)
  refine zst_ (gj_dup (pc := 8) dX1_init_8 rfl) ?_
  refine gb_gd (fun hb => ?_)
  refine gb_callV (pc := 9) (as := [zr y2]) (rest := [zr y2, zr x0]) (zCl.of (zLk_I (M := MX1_init) plJ1_init.1 rfl (of_decide_eq_true hb) rfl rfl dX1_init_9 q156 q157 q158) plJ1_init (Nat.le_of_ble_eq_true rfl) (fun h => c_J1_init h)) (fun σ3 => ?_)
  refine gb_putFi (pc := 12) fl100 rfl rfl fr100 dX1_init_12 q841 (Or.inl rfl) (fun σ4 => ?_)
  refine zst_ (gj_aload_n 0 (pc := 15) dX1_init_15 rfl) ?_
  refine gb_new (pc := 16) (ci := 2) (c := (RX2, TX2, 22)) rfl (by decide) dX1_init_16 q187 q188 q106 (fun σ5 => ?_)
  refine gb_let (fun y6 => ?_)
  refine zst_ (gj_dup (pc := 19) dX1_init_19 rfl) ?_
  refine gb_gd (fun hb => ?_)
  refine gb_callV (pc := 20) (as := [zr y6]) (rest := [zr y6, zr x0]) (zCl.of (zLk_I (M := MX1_init) plX2_init.1 rfl (of_decide_eq_true hb) rfl rfl dX1_init_20 q189 q190 q191) plX2_init (Nat.le_of_ble_eq_true rfl) (fun h => c_X2_init h)) (fun σ7 => ?_)
  refine gb_putFi (pc := 23) fl101 rfl rfl fr101 dX1_init_23 q842 (Or.inl rfl) (fun σ8 => ?_)
  refine zst_ (gj_aload_n 0 (pc := 26) dX1_init_26 rfl) ?_
  refine gb_new (pc := 27) (ci := 6) (c := (RX6, TX6, 8)) rfl (by decide) dX1_init_27 q363 q364 q110 (fun σ9 => ?_)
  refine gb_let (fun y10 => ?_)
  refine zst_ (gj_dup (pc := 30) dX1_init_30 rfl) ?_
  refine zst_ (gj_aload_n 0 (pc := 31) dX1_init_31 rfl) ?_
  refine gb_get (pc := 32) fl101 dX1_init_32 q842 (Or.inl rfl) (fun v11 => ?_)
  refine gb_gd (fun hb => ?_)
  refine gb_callV (pc := 35) (as := [zr y10, zr v11]) (rest := [zr y10, zr x0]) (zCl.of (zLk_I (M := MX1_init) plX6_init.1 rfl (of_decide_eq_true hb) rfl rfl dX1_init_35 q365 q366 q367) plX6_init (Nat.le_of_ble_eq_true rfl) (fun h => c_X6_init h)) (fun σ12 => ?_)
  refine gb_putFi (pc := 38) fl102 rfl rfl fr102 dX1_init_38 q843 (Or.inl rfl) (fun σ13 => ?_)
  refine zst_ (gj_aload_n 0 (pc := 41) dX1_init_41 rfl) ?_
  refine gb_new (pc := 42) (ci := 7) (c := (RX7, TX7, 10)) rfl (by decide) dX1_init_42 q725 q726 q125 (fun σ14 => ?_)
  refine gb_let (fun y15 => ?_)
  refine zst_ (gj_dup (pc := 45) dX1_init_45 rfl) ?_
  refine zst_ (gj_aload_n 0 (pc := 46) dX1_init_46 rfl) ?_
  refine gb_get (pc := 47) fl101 dX1_init_47 q842 (Or.inl rfl) (fun v16 => ?_)
  refine gb_gd (fun hb => ?_)
  refine gb_callV (pc := 50) (as := [zr y15, zr v16]) (rest := [zr y15, zr x0]) (zCl.of (zLk_I (M := MX1_init) plX7_init.1 rfl (of_decide_eq_true hb) rfl rfl dX1_init_50 q727 q728 q729) plX7_init (Nat.le_of_ble_eq_true rfl) (fun h => c_X7_init h)) (fun σ17 => ?_)
  refine gb_putFi (pc := 53) fl103 rfl rfl fr103 dX1_init_53 q844 (Or.inl rfl) (fun σ18 => ?_)
  refine zst_ (gj_aload_n 0 (pc := 56) dX1_init_56 rfl) ?_
  refine gb_new (pc := 57) (ci := 8) (c := (RX8, TX8, 23)) rfl (by decide) dX1_init_57 q759 q760 q126 (fun σ19 => ?_)
  refine gb_let (fun y20 => ?_)
  refine zst_ (gj_dup (pc := 60) dX1_init_60 rfl) ?_
  refine zst_ (gj_aload_n 0 (pc := 61) dX1_init_61 rfl) ?_
  refine gb_get (pc := 62) fl101 dX1_init_62 q842 (Or.inl rfl) (fun v21 => ?_)
  refine zst_ (gj_aload_n 0 (pc := 65) dX1_init_65 rfl) ?_
  refine gb_get (pc := 66) fl103 dX1_init_66 q844 (Or.inl rfl) (fun v22 => ?_)
  refine gb_gd (fun hb => ?_)
  refine gb_callV (pc := 69) (as := [zr y20, zr v21, zr v22]) (rest := [zr y20, zr x0]) (zCl.of (zLk_I (M := MX1_init) plX8_init.1 rfl (of_decide_eq_true hb) rfl rfl dX1_init_69 q761 q762 q763) plX8_init (Nat.le_of_ble_eq_true rfl) (fun h => c_X8_init h)) (fun σ23 => ?_)
  refine gb_putFi (pc := 72) fl104 rfl rfl fr104 dX1_init_72 q845 (Or.inl rfl) (fun σ24 => ?_)
  refine zst_ (gj_aload_n 0 (pc := 75) dX1_init_75 rfl) ?_
  refine zst_ (gj_iconst (pc := 76) dX1_init_76 (by decide)) ?_
  refine gb_put (pc := 77) fl108 fr108 dX1_init_77 q849 (Or.inl rfl) (fun σ25 => ?_)
  refine zst_ (gj_aload_n 0 (pc := 80) dX1_init_80 rfl) ?_
  refine zst_ (gj_bipush (pc := 81) dX1_init_81 ⟨rfl, by decide⟩) ?_
  refine gb_newa (pc := 83) (k := 101) ⟨by decide, by decide⟩ rfl dX1_init_83 q228 (fun σ26 => ?_)
  refine gb_putFi (pc := 85) fl109 rfl rfl fr109 dX1_init_85 q850 (Or.inl rfl) (fun σ27 => ?_)
  refine zst_ (gj_aload_n 0 (pc := 88) dX1_init_88 rfl) ?_
  refine zst_ (gj_iconst (pc := 89) dX1_init_89 (by decide)) ?_
  refine gb_put (pc := 90) fl110 fr110 dX1_init_90 q851 (Or.inl rfl) (fun σ28 => ?_)
  refine zst_ (gj_aload_n 0 (pc := 93) dX1_init_93 rfl) ?_
  refine gb_new (pc := 94) (ci := 3) (c := (RX3, TX3, 4)) rfl (by decide) dX1_init_94 q839 q198 q107 (fun σ29 => ?_)
  refine gb_let (fun y30 => ?_)
  refine zst_ (gj_dup (pc := 97) dX1_init_97 rfl) ?_
  refine gb_gd (fun hb => ?_)
  refine gb_callV (pc := 98) (as := [zr y30]) (rest := [zr y30, zr x0]) (zCl.of (zLk_IN (M := MX1_init) plX3_init.1 rfl (of_decide_eq_true hb) rfl rfl dX1_init_98 q840 q200 q201) plX3_init (Nat.le_of_ble_eq_true rfl) (fun h => c_X3_init h)) (fun σ31 => ?_)
  refine gb_putFi (pc := 101) fl111 rfl rfl fr111 dX1_init_101 q852 (Or.inl rfl) (fun σ32 => ?_)
  intro h
  cases h
  have hk : (0, ((3, 0) : zV), σ32) = out := hk
  subst hk
  exact gj_vret (pc := 104) dX1_init_104 rfl
theorem q892 : (Jvm.Cond.code ({ cls := "java/lang/StringLatin1", name := "canEncode", desc := "(C)Z" } : Jvm.MethodName) prog_40_method_3_code (1 : Nat) (Option.some Jvm.ClassFile.FieldType.boolean)) ∈ lw_all := lw_g (lw_at lw_m4 72 rfl) rfl
abbrev cJ15_canEncode : ByteArray := prog_40_method_3_code
def yJ15_canEncode : MethodName := ⟨RJ15, "canEncode", "(C)Z"⟩
theorem dJ15_canEncode_0 : decode cJ15_canEncode 0 = .ok (.iload_n 0, 1) := by decide +kernel
theorem dJ15_canEncode_1 : decode cJ15_canEncode 1 = .ok (.sipush 255, 3) := by decide +kernel
theorem dJ15_canEncode_4 : decode cJ15_canEncode 4 = .ok (.if_icmp .gt 7, 3) := by decide +kernel
theorem dJ15_canEncode_7 : decode cJ15_canEncode 7 = .ok (.iconst 1, 1) := by decide +kernel
theorem dJ15_canEncode_8 : decode cJ15_canEncode 8 = .ok (.goto 4, 3) := by decide +kernel
theorem dJ15_canEncode_11 : decode cJ15_canEncode 11 = .ok (.iconst 0, 1) := by decide +kernel
theorem dJ15_canEncode_12 : decode cJ15_canEncode 12 = .ok (.ireturn, 1) := by decide +kernel
abbrev MJ15_canEncode : zT := (yJ15_canEncode, cJ15_canEncode, 1, (Option.some Jvm.ClassFile.FieldType.boolean), [])
theorem plJ15_canEncode : zplain MJ15_canEncode 1 ∧ (zcodeW MJ15_canEncode ∈ lw_all ∧ Cond.initialized MJ15_canEncode.1.cls ∈ lw_all) := ⟨⟨by decide +kernel, by decide +kernel⟩, q892, q123⟩
noncomputable def f_J15_canEncode_12 (t0 : Int) (σ : zM) : Option zO :=
  zgd (z01 t0) <|
  some (0, zi t0, σ)
theorem w_J15_canEncode_12 {g : zG} {lv : Nat} {out : zO} (t0 : Int) (σ : zM) {r : zO} (h : f_J15_canEncode_12 t0 σ = some r) (hk : (fun o : zO => o = out) r) : Gj g MJ15_canEncode (lv) 12 [] [zi t0] σ out := by
  revert h
  unfold f_J15_canEncode_12
  refine gb_gd (fun hb => ?_)
  intro h
  cases h
  have hk : (0, zi t0, σ) = out := hk
  subst hk
  exact gj_ret (pc := 12) (t := .boolean) dJ15_canEncode_12 rfl ⟨rfl, rfl⟩ (fun _ => z01E hb)
noncomputable def f_J15_canEncode (x0 : Int) (σ : zM) : Option zO :=
  if 255 < x0 then
    f_J15_canEncode_12 0 σ
  else
    f_J15_canEncode_12 1 σ
theorem c_J15_canEncode {g : zG} {lv : Nat} {x0 : Int} {σ : zM} {out : zO} (h : f_J15_canEncode x0 σ = some out) : Cj g (lv) MJ15_canEncode [zi x0] σ out := by
  refine cj_go (ls := [(0, zi x0)]) (by decide) (Nat.le_of_ble_eq_true rfl) rfl (zgen h (fun r hk => ?_))
  unfold f_J15_canEncode
  refine zst_ (gj_iload_n 0 (pc := 0) dJ15_canEncode_0 rfl) ?_
  refine zst_ (gj_sipush (pc := 1) dJ15_canEncode_1 ⟨rfl, by decide⟩) ?_
  refine gb_if (gj_icmp_gt 11 (pc := 4) dJ15_canEncode_4 (by decide)) ?_ ?_
  · refine zst_ (gj_iconst (pc := 11) dJ15_canEncode_11 (by decide)) ?_
    refine zst_ (gj_sub [] rfl) ?_
    exact fun h => w_J15_canEncode_12 0 σ h hk
  · refine zst_ (gj_iconst (pc := 7) dJ15_canEncode_7 (by decide)) ?_
    refine zst_ (gj_goto 12 (pc := 8) dJ15_canEncode_8 (by decide)) ?_
    refine zst_ (gj_sub [] rfl) ?_
    exact fun h => w_J15_canEncode_12 1 σ h hk
theorem q889 : (Jvm.Cond.code ({ cls := "java/lang/AbstractStringBuilder", name := "append", desc := "(C)Ljava/lang/AbstractStringBuilder;" } : Jvm.MethodName) prog_24_method_31_code (2 : Nat) (Option.some (Jvm.ClassFile.FieldType.object "java/lang/AbstractStringBuilder"))) ∈ lw_all := lw_g (lw_at lw_m4 69 rfl) rfl
theorem q890 : (Jvm.Cond.methodLink "java/lang/AbstractStringBuilder" (191 : Nat) ({ cls := "java/lang/StringLatin1", name := "canEncode", desc := "(C)Z" } : Jvm.MethodName)) ∈ lw_all := lw_g (lw_at lw_m4 70 rfl) rfl
theorem q891 : (Jvm.Cond.static ({ cls := "java/lang/StringLatin1", name := "canEncode", desc := "(C)Z" } : Jvm.MethodName)) ∈ lw_all := lw_g (lw_at lw_m4 71 rfl) rfl
abbrev cJ0_append_3 : ByteArray := prog_24_method_31_code
def yJ0_append_3 : MethodName := ⟨RJ0, "append", "(C)Ljava/lang/AbstractStringBuilder;"⟩
theorem dJ0_append_3_0 : decode cJ0_append_3 0 = .ok (.aload_n 0, 1) := by decide +kernel
theorem dJ0_append_3_1 : decode cJ0_append_3 1 = .ok (.aload_n 0, 1) := by decide +kernel
theorem dJ0_append_3_2 : decode cJ0_append_3 2 = .ok (.getfield 79, 3) := by decide +kernel
theorem dJ0_append_3_5 : decode cJ0_append_3 5 = .ok (.iconst 1, 1) := by decide +kernel
theorem dJ0_append_3_6 : decode cJ0_append_3 6 = .ok (.iadd, 1) := by decide +kernel
theorem dJ0_append_3_7 : decode cJ0_append_3 7 = .ok (.invokevirtual 100, 3) := by decide +kernel
theorem dJ0_append_3_10 : decode cJ0_append_3 10 = .ok (.aload_n 0, 1) := by decide +kernel
theorem dJ0_append_3_11 : decode cJ0_append_3 11 = .ok (.invokevirtual 83, 3) := by decide +kernel
theorem dJ0_append_3_14 : decode cJ0_append_3 14 = .ok (.ifCond .eq 31, 3) := by decide +kernel
theorem dJ0_append_3_17 : decode cJ0_append_3 17 = .ok (.iload_n 1, 1) := by decide +kernel
theorem dJ0_append_3_18 : decode cJ0_append_3 18 = .ok (.invokestatic 191, 3) := by decide +kernel
theorem dJ0_append_3_21 : decode cJ0_append_3 21 = .ok (.ifCond .eq 24, 3) := by decide +kernel
theorem dJ0_append_3_24 : decode cJ0_append_3 24 = .ok (.aload_n 0, 1) := by decide +kernel
theorem dJ0_append_3_25 : decode cJ0_append_3 25 = .ok (.getfield 15, 3) := by decide +kernel
theorem dJ0_append_3_28 : decode cJ0_append_3 28 = .ok (.aload_n 0, 1) := by decide +kernel
theorem dJ0_append_3_29 : decode cJ0_append_3 29 = .ok (.dup, 1) := by decide +kernel
theorem dJ0_append_3_30 : decode cJ0_append_3 30 = .ok (.getfield 79, 3) := by decide +kernel
theorem dJ0_append_3_33 : decode cJ0_append_3 33 = .ok (.dup_x1, 1) := by decide +kernel
theorem dJ0_append_3_34 : decode cJ0_append_3 34 = .ok (.iconst 1, 1) := by decide +kernel
theorem dJ0_append_3_35 : decode cJ0_append_3 35 = .ok (.iadd, 1) := by decide +kernel
theorem dJ0_append_3_36 : decode cJ0_append_3 36 = .ok (.putfield 79, 3) := by decide +kernel
theorem dJ0_append_3_39 : decode cJ0_append_3 39 = .ok (.iload_n 1, 1) := by decide +kernel
theorem dJ0_append_3_40 : decode cJ0_append_3 40 = .ok (.i2b, 1) := by decide +kernel
theorem dJ0_append_3_41 : decode cJ0_append_3 41 = .ok (.bastore, 1) := by decide +kernel
theorem dJ0_append_3_42 : decode cJ0_append_3 42 = .ok (.goto 33, 3) := by decide +kernel
theorem dJ0_append_3_45 : decode cJ0_append_3 45 = .ok (.aload_n 0, 1) := by decide +kernel
theorem dJ0_append_3_46 : decode cJ0_append_3 46 = .ok (.invokevirtual 83, 3) := by decide +kernel
theorem dJ0_append_3_49 : decode cJ0_append_3 49 = .ok (.ifCond .eq 7, 3) := by decide +kernel
theorem dJ0_append_3_52 : decode cJ0_append_3 52 = .ok (.aload_n 0, 1) := by decide +kernel
theorem dJ0_append_3_53 : decode cJ0_append_3 53 = .ok (.invokevirtual 195, 3) := by decide +kernel
theorem dJ0_append_3_56 : decode cJ0_append_3 56 = .ok (.aload_n 0, 1) := by decide +kernel
theorem dJ0_append_3_57 : decode cJ0_append_3 57 = .ok (.getfield 15, 3) := by decide +kernel
theorem dJ0_append_3_60 : decode cJ0_append_3 60 = .ok (.aload_n 0, 1) := by decide +kernel
theorem dJ0_append_3_61 : decode cJ0_append_3 61 = .ok (.dup, 1) := by decide +kernel
theorem dJ0_append_3_62 : decode cJ0_append_3 62 = .ok (.getfield 79, 3) := by decide +kernel
theorem dJ0_append_3_65 : decode cJ0_append_3 65 = .ok (.dup_x1, 1) := by decide +kernel
theorem dJ0_append_3_66 : decode cJ0_append_3 66 = .ok (.iconst 1, 1) := by decide +kernel
theorem dJ0_append_3_67 : decode cJ0_append_3 67 = .ok (.iadd, 1) := by decide +kernel
theorem dJ0_append_3_68 : decode cJ0_append_3 68 = .ok (.putfield 79, 3) := by decide +kernel
theorem dJ0_append_3_71 : decode cJ0_append_3 71 = .ok (.iload_n 1, 1) := by decide +kernel
theorem dJ0_append_3_72 : decode cJ0_append_3 72 = .ok (.invokestatic 197, 3) := by decide +kernel
theorem dJ0_append_3_75 : decode cJ0_append_3 75 = .ok (.aload_n 0, 1) := by decide +kernel
theorem dJ0_append_3_76 : decode cJ0_append_3 76 = .ok (.areturn, 1) := by decide +kernel
abbrev MJ0_append_3 : zT := (yJ0_append_3, cJ0_append_3, 2, (Option.some (Jvm.ClassFile.FieldType.object "java/lang/AbstractStringBuilder")), [])
theorem plJ0_append_3 : zplain MJ0_append_3 1 ∧ (zcodeW MJ0_append_3 ∈ lw_all ∧ Cond.initialized MJ0_append_3.1.cls ∈ lw_all) := ⟨⟨by decide +kernel, by decide +kernel⟩, q889, q102⟩
noncomputable def f_J0_append_3_56 (x0 x1 : Int) (σ : zM) : Option zO :=
  (zgf σ 2000 x0).bind fun v1 =>
  (zgf σ 2003 x0).bind fun v2 =>
  (zpf σ 2003 x0 (zadd v2 1)).bind fun σ3 =>
  none
theorem w_J0_append_3_56 {g : zG} {lv : Nat} {out : zO} (x0 x1 : Int) (σ : zM) {r : zO} (h : f_J0_append_3_56 x0 x1 σ = some r) (hk : (fun o : zO => o = out) r) : Gj g MJ0_append_3 (lv + 4) 56 [(0, zr x0), (1, zi x1)] [] σ out := by
  revert h
  unfold f_J0_append_3_56
  refine zst_ (gj_aload_n 0 (pc := 56) dJ0_append_3_56 rfl) ?_
  refine gb_get (pc := 57) fl2000 dJ0_append_3_57 q172 (Or.inl rfl) (fun v1 => ?_)
  refine zst_ (gj_aload_n 0 (pc := 60) dJ0_append_3_60 rfl) ?_
  refine zst_ (gj_dup (pc := 61) dJ0_append_3_61 rfl) ?_
  refine gb_get (pc := 62) fl2003 dJ0_append_3_62 q176 (Or.inl rfl) (fun v2 => ?_)
  refine zst_ (gj_dup_x1 (pc := 65) dJ0_append_3_65 rfl rfl) ?_
  refine zst_ (gj_iconst (pc := 66) dJ0_append_3_66 (by decide)) ?_
  refine zst_ (gj_iadd (pc := 67) dJ0_append_3_67) ?_
  refine gb_put (pc := 68) fl2003 fr2003 dJ0_append_3_68 q176 (Or.inl rfl) (fun σ3 => ?_)
  refine zst_ (gj_iload_n 1 (pc := 71) dJ0_append_3_71 rfl) ?_
  exact (fun h => by cases h)
noncomputable def f_J0_append_3_45 (x0 x1 : Int) (σ : zM) : Option zO :=
  zgd (zis σ 21 x0) <|
  zci (f_J0_isLatin1 x0 σ) fun v1 σ2 =>
  if v1 = 0 then
    f_J0_append_3_56 x0 x1 σ2
  else
    none
theorem w_J0_append_3_45 {g : zG} {lv : Nat} {out : zO} (x0 x1 : Int) (σ : zM) {r : zO} (h : f_J0_append_3_45 x0 x1 σ = some r) (hk : (fun o : zO => o = out) r) : Gj g MJ0_append_3 (lv + 4) 45 [(0, zr x0), (1, zi x1)] [] σ out := by
  revert h
  unfold f_J0_append_3_45
  refine zst_ (gj_aload_n 0 (pc := 45) dJ0_append_3_45 rfl) ?_
  refine gb_gd (fun hb => ?_)
  refine gb_callI (pc := 46) (as := [zr x0]) (rest := []) (zCl.of (zLk_V (M := MJ0_append_3) (ci := 20) (r := (RJ1, TJ1, 4)) plJ0_isLatin1.1 rfl rfl (zisE hb).1 (zisE hb).2 dJ0_append_3_46 q482 q483 q485 q486) plJ0_isLatin1 (Nat.le_of_ble_eq_true rfl) (fun h => c_J0_isLatin1 h)) (fun v1 σ2 => ?_)
  refine gb_if (gj_if_eq 56 (pc := 49) dJ0_append_3_49 (by decide)) ?_ ?_
  · exact fun h => w_J0_append_3_56 x0 x1 σ2 h hk
  · refine zst_ (gj_aload_n 0 (pc := 52) dJ0_append_3_52 rfl) ?_
    exact (fun h => by cases h)
noncomputable def f_J0_append_3_75 (x0 : Int) (σ : zM) : Option zO :=
  some (0, zr x0, σ)
theorem w_J0_append_3_75 {g : zG} {lv : Nat} {out : zO} (x0 : Int) (σ : zM) {r : zO} (h : f_J0_append_3_75 x0 σ = some r) (hk : (fun o : zO => o = out) r) : Gj g MJ0_append_3 (lv + 4) 75 [(0, zr x0)] [] σ out := by
  revert h
  unfold f_J0_append_3_75
  refine zst_ (gj_aload_n 0 (pc := 75) dJ0_append_3_75 rfl) ?_
  intro h
  cases h
  have hk : (0, zr x0, σ) = out := hk
  subst hk
  exact gj_aret (pc := 76) dJ0_append_3_76 rfl (Or.inl ⟨_, rfl⟩)
noncomputable def f_J0_append_3 (x0 x1 : Int) (σ : zM) : Option zO :=
  (zgf σ 2003 x0).bind fun v1 =>
  zgd (zis σ 21 x0) <|
  zcv (f_J0_ensureCapacityInternal x0 (zadd v1 1) σ) fun σ2 =>
  zgd (zis σ2 21 x0) <|
  zci (f_J0_isLatin1 x0 σ2) fun v3 σ4 =>
  if v3 = 0 then
    f_J0_append_3_45 x0 x1 σ4
  else
    zci (f_J15_canEncode x1 σ4) fun v5 σ6 =>
    if v5 = 0 then
      f_J0_append_3_45 x0 x1 σ6
    else
      (zgf σ6 2000 x0).bind fun v7 =>
      (zgf σ6 2003 x0).bind fun v8 =>
      (zpf σ6 2003 x0 (zadd v8 1)).bind fun σ9 =>
      zgd (zby (zi2b x1)) <|
      (zpa σ9 104 v7 v8 (zi2b x1)).bind fun σ10 =>
      f_J0_append_3_75 x0 σ10
theorem c_J0_append_3 {g : zG} {lv : Nat} {x0 x1 : Int} {σ : zM} {out : zO} (h : f_J0_append_3 x0 x1 σ = some out) : Cj g (lv + 4) MJ0_append_3 [zr x0, zi x1] σ out := by
  refine cj_go (ls := [(0, zr x0), (1, zi x1)]) (by decide) (Nat.le_of_ble_eq_true rfl) rfl (zgen h (fun r hk => ?_))
  unfold f_J0_append_3
  refine zst_ (gj_aload_n 0 (pc := 0) dJ0_append_3_0 rfl) ?_
  refine zst_ (gj_aload_n 0 (pc := 1) dJ0_append_3_1 rfl) ?_
  refine gb_get (pc := 2) fl2003 dJ0_append_3_2 q176 (Or.inl rfl) (fun v1 => ?_)
  refine zst_ (gj_iconst (pc := 5) dJ0_append_3_5 (by decide)) ?_
  refine zst_ (gj_iadd (pc := 6) dJ0_append_3_6) ?_
  refine gb_gd (fun hb => ?_)
  refine gb_callV (pc := 7) (as := [zr x0, zi (zadd v1 1)]) (rest := []) (zCl.of (zLk_P (M := MJ0_append_3) (xo := ⟨"java/lang/AbstractStringBuilder", "isLatin1", "()Z"⟩) (yo := ⟨"java/lang/AbstractStringBuilder", "isLatin1", "()Z"⟩) plJ0_ensureCapacityInternal.1 rfl (zRcv_obj (ci := 20) (r := (RJ1, TJ1, 4)) rfl (zisE hb).1 (zisE hb).2) rfl dJ0_append_3_7 q447 q449 q485 q448 q450) plJ0_ensureCapacityInternal (Nat.le_of_ble_eq_true rfl) (fun h => c_J0_ensureCapacityInternal h)) (fun σ2 => ?_)
  refine zst_ (gj_aload_n 0 (pc := 10) dJ0_append_3_10 rfl) ?_
  refine gb_gd (fun hb => ?_)
  refine gb_callI (pc := 11) (as := [zr x0]) (rest := []) (zCl.of (zLk_V (M := MJ0_append_3) (ci := 20) (r := (RJ1, TJ1, 4)) plJ0_isLatin1.1 rfl rfl (zisE hb).1 (zisE hb).2 dJ0_append_3_11 q482 q483 q485 q486) plJ0_isLatin1 (Nat.le_of_ble_eq_true rfl) (fun h => c_J0_isLatin1 h)) (fun v3 σ4 => ?_)
  refine gb_if (gj_if_eq 45 (pc := 14) dJ0_append_3_14 (by decide)) ?_ ?_
  · exact fun h => w_J0_append_3_45 x0 x1 σ4 h hk
  · refine zst_ (gj_iload_n 1 (pc := 17) dJ0_append_3_17 rfl) ?_
    refine gb_callI (pc := 18) (as := [zi x1]) (rest := []) (zCl.of (zLk_S (M := MJ0_append_3) plJ15_canEncode.1 rfl dJ0_append_3_18 q890 q891 q123 q892) plJ15_canEncode (Nat.le_of_ble_eq_true rfl) (fun h => c_J15_canEncode h)) (fun v5 σ6 => ?_)
    refine gb_if (gj_if_eq 45 (pc := 21) dJ0_append_3_21 (by decide)) ?_ ?_
    · exact fun h => w_J0_append_3_45 x0 x1 σ6 h hk
    · refine zst_ (gj_aload_n 0 (pc := 24) dJ0_append_3_24 rfl) ?_
      refine gb_get (pc := 25) fl2000 dJ0_append_3_25 q172 (Or.inl rfl) (fun v7 => ?_)
      refine zst_ (gj_aload_n 0 (pc := 28) dJ0_append_3_28 rfl) ?_
      refine zst_ (gj_dup (pc := 29) dJ0_append_3_29 rfl) ?_
      refine gb_get (pc := 30) fl2003 dJ0_append_3_30 q176 (Or.inl rfl) (fun v8 => ?_)
      refine zst_ (gj_dup_x1 (pc := 33) dJ0_append_3_33 rfl rfl) ?_
      refine zst_ (gj_iconst (pc := 34) dJ0_append_3_34 (by decide)) ?_
      refine zst_ (gj_iadd (pc := 35) dJ0_append_3_35) ?_
      refine gb_put (pc := 36) fl2003 fr2003 dJ0_append_3_36 q176 (Or.inl rfl) (fun σ9 => ?_)
      refine zst_ (gj_iload_n 1 (pc := 39) dJ0_append_3_39 rfl) ?_
      refine zst_ (gj_i2b (pc := 40) dJ0_append_3_40) ?_
      refine gb_gd (fun hb => ?_)
      refine gb_bast (pc := 41) (zbyE hb) dJ0_append_3_41 (fun σ10 => ?_)
      refine zst_ (gj_goto 75 (pc := 42) dJ0_append_3_42 (by decide)) ?_
      refine zst_ (gj_sub [0] rfl) ?_
      exact fun h => w_J0_append_3_75 x0 σ10 h hk
theorem q886 : (Jvm.Cond.code ({ cls := "java/lang/StringBuilder", name := "append", desc := "(C)Ljava/lang/StringBuilder;" } : Jvm.MethodName) prog_38_method_14_code (2 : Nat) (Option.some (Jvm.ClassFile.FieldType.object "java/lang/StringBuilder"))) ∈ lw_all := lw_g (lw_at lw_m4 66 rfl) rfl
theorem q887 : (Jvm.Cond.methodLink "java/lang/StringBuilder" (50 : Nat) ({ cls := "java/lang/AbstractStringBuilder", name := "append", desc := "(C)Ljava/lang/AbstractStringBuilder;" } : Jvm.MethodName)) ∈ lw_all := lw_g (lw_at lw_m4 67 rfl) rfl
theorem q888 : (Jvm.Cond.instanceMethod ({ cls := "java/lang/AbstractStringBuilder", name := "append", desc := "(C)Ljava/lang/AbstractStringBuilder;" } : Jvm.MethodName)) ∈ lw_all := lw_g (lw_at lw_m4 68 rfl) rfl
theorem q2456 : (Jvm.Cond.sameMethod "java/lang/AbstractStringBuilder" "java/lang/AbstractStringBuilder" "append" "(C)Ljava/lang/AbstractStringBuilder;") ∈ lw_all := lw_g (lw_at lw_m10 196 rfl) rfl
abbrev cJ1_append_3 : ByteArray := prog_38_method_14_code
def yJ1_append_3 : MethodName := ⟨RJ1, "append", "(C)Ljava/lang/StringBuilder;"⟩
theorem dJ1_append_3_0 : decode cJ1_append_3 0 = .ok (.aload_n 0, 1) := by decide +kernel
theorem dJ1_append_3_1 : decode cJ1_append_3 1 = .ok (.iload_n 1, 1) := by decide +kernel
theorem dJ1_append_3_2 : decode cJ1_append_3 2 = .ok (.invokespecial 50, 3) := by decide +kernel
theorem dJ1_append_3_5 : decode cJ1_append_3 5 = .ok (.pop, 1) := by decide +kernel
theorem dJ1_append_3_6 : decode cJ1_append_3 6 = .ok (.aload_n 0, 1) := by decide +kernel
theorem dJ1_append_3_7 : decode cJ1_append_3 7 = .ok (.areturn, 1) := by decide +kernel
abbrev MJ1_append_3 : zT := (yJ1_append_3, cJ1_append_3, 2, (Option.some (Jvm.ClassFile.FieldType.object "java/lang/StringBuilder")), [])
theorem plJ1_append_3 : zplain MJ1_append_3 1 ∧ (zcodeW MJ1_append_3 ∈ lw_all ∧ Cond.initialized MJ1_append_3.1.cls ∈ lw_all) := ⟨⟨by decide +kernel, by decide +kernel⟩, q886, q103⟩
noncomputable def f_J1_append_3 (x0 x1 : Int) (σ : zM) : Option zO :=
  zgd (zis σ 21 x0) <|
  zcr (f_J0_append_3 x0 x1 σ) fun v1 σ2 =>
  some (0, zr x0, σ2)
theorem c_J1_append_3 {g : zG} {lv : Nat} {x0 x1 : Int} {σ : zM} {out : zO} (h : f_J1_append_3 x0 x1 σ = some out) : Cj g (lv + 5) MJ1_append_3 [zr x0, zi x1] σ out := by
  refine cj_go (ls := [(0, zr x0), (1, zi x1)]) (by decide) (Nat.le_of_ble_eq_true rfl) rfl (zgen h (fun r hk => ?_))
  unfold f_J1_append_3
  refine zst_ (gj_aload_n 0 (pc := 0) dJ1_append_3_0 rfl) ?_
  refine zst_ (gj_iload_n 1 (pc := 1) dJ1_append_3_1 rfl) ?_
  refine gb_gd (fun hb => ?_)
  refine gb_callA (pc := 2) (as := [zr x0, zi x1]) (rest := []) (zCl.of (zLk_Sp (M := MJ1_append_3) (ci := 20) (r := (RJ1, TJ1, 4)) plJ0_append_3.1 rfl (by decide) rfl (zisE hb).1 (zisE hb).2 dJ1_append_3_2 q887 q2456 q185 q888 q889) plJ0_append_3 (Nat.le_of_ble_eq_true rfl) (fun h => c_J0_append_3 h)) (fun v1 σ2 => ?_)
  refine zst_ (gj_pop (pc := 5) dJ1_append_3_5 rfl) ?_
  refine zst_ (gj_aload_n 0 (pc := 6) dJ1_append_3_6 rfl) ?_
  intro h
  cases h
  have hk : (0, zr x0, σ2) = out := hk
  subst hk
  exact gj_aret (pc := 7) dJ1_append_3_7 rfl (Or.inl ⟨_, rfl⟩)
theorem q881 : (Jvm.Cond.code ({ cls := "LassoFinder", name := "write", desc := "(J)Z" } : Jvm.MethodName) prog_1_method_2_code (6 : Nat) (Option.some Jvm.ClassFile.FieldType.boolean)) ∈ lw_all := lw_g (lw_at lw_m4 61 rfl) rfl
theorem q882 : (Jvm.Cond.methodLink "LassoFinder" (66 : Nat) ({ cls := "java/lang/StringBuilder", name := "length", desc := "()I" } : Jvm.MethodName)) ∈ lw_all := lw_g (lw_at lw_m4 62 rfl) rfl
theorem q883 : (Jvm.Cond.methodLink "LassoFinder" (70 : Nat) ({ cls := "java/lang/StringBuilder", name := "append", desc := "(C)Ljava/lang/StringBuilder;" } : Jvm.MethodName)) ∈ lw_all := lw_g (lw_at lw_m4 63 rfl) rfl
theorem q884 : (Jvm.Cond.instanceMethod ({ cls := "java/lang/StringBuilder", name := "append", desc := "(C)Ljava/lang/StringBuilder;" } : Jvm.MethodName)) ∈ lw_all := lw_g (lw_at lw_m4 64 rfl) rfl
theorem q885 : (Jvm.Cond.selects "java/lang/StringBuilder" ({ cls := "java/lang/StringBuilder", name := "append", desc := "(C)Ljava/lang/StringBuilder;" } : Jvm.MethodName) ({ cls := "java/lang/StringBuilder", name := "append", desc := "(C)Ljava/lang/StringBuilder;" } : Jvm.MethodName)) ∈ lw_all := lw_g (lw_at lw_m4 65 rfl) rfl
theorem q2455 : (Jvm.Cond.selects "java/lang/StringBuilder" ({ cls := "java/lang/StringBuilder", name := "length", desc := "()I" } : Jvm.MethodName) ({ cls := "java/lang/StringBuilder", name := "length", desc := "()I" } : Jvm.MethodName)) ∈ lw_all := lw_g (lw_at lw_m10 195 rfl) rfl
abbrev cX1_write : ByteArray := prog_1_method_2_code
def yX1_write : MethodName := ⟨RX1, "write", "(J)Z"⟩
theorem dX1_write_0 : decode cX1_write 0 = .ok (.iconst 0, 1) := by decide +kernel
theorem dX1_write_1 : decode cX1_write 1 = .ok (.istore_n 3, 1) := by decide +kernel
theorem dX1_write_2 : decode cX1_write 2 = .ok (.bipush 56, 2) := by decide +kernel
theorem dX1_write_4 : decode cX1_write 4 = .ok (.istore 4, 2) := by decide +kernel
theorem dX1_write_6 : decode cX1_write 6 = .ok (.iload 4, 2) := by decide +kernel
theorem dX1_write_8 : decode cX1_write 8 = .ok (.ifCond .lt 54, 3) := by decide +kernel
theorem dX1_write_11 : decode cX1_write 11 = .ok (.lload_n 1, 1) := by decide +kernel
theorem dX1_write_12 : decode cX1_write 12 = .ok (.iload 4, 2) := by decide +kernel
theorem dX1_write_14 : decode cX1_write 14 = .ok (.lshr, 1) := by decide +kernel
theorem dX1_write_15 : decode cX1_write 15 = .ok (.l2i, 1) := by decide +kernel
theorem dX1_write_16 : decode cX1_write 16 = .ok (.sipush 255, 3) := by decide +kernel
theorem dX1_write_19 : decode cX1_write 19 = .ok (.iand, 1) := by decide +kernel
theorem dX1_write_20 : decode cX1_write 20 = .ok (.istore 5, 2) := by decide +kernel
theorem dX1_write_22 : decode cX1_write 22 = .ok (.iload 5, 2) := by decide +kernel
theorem dX1_write_24 : decode cX1_write 24 = .ok (.ifCond .eq 19, 3) := by decide +kernel
theorem dX1_write_27 : decode cX1_write 27 = .ok (.iload 5, 2) := by decide +kernel
theorem dX1_write_29 : decode cX1_write 29 = .ok (.bipush 33, 2) := by decide +kernel
theorem dX1_write_31 : decode cX1_write 31 = .ok (.if_icmp .lt 10, 3) := by decide +kernel
theorem dX1_write_34 : decode cX1_write 34 = .ok (.iload 5, 2) := by decide +kernel
theorem dX1_write_36 : decode cX1_write 36 = .ok (.bipush 126, 2) := by decide +kernel
theorem dX1_write_38 : decode cX1_write 38 = .ok (.if_icmp .le 5, 3) := by decide +kernel
theorem dX1_write_41 : decode cX1_write 41 = .ok (.iconst 0, 1) := by decide +kernel
theorem dX1_write_42 : decode cX1_write 42 = .ok (.ireturn, 1) := by decide +kernel
theorem dX1_write_43 : decode cX1_write 43 = .ok (.iload_n 3, 1) := by decide +kernel
theorem dX1_write_44 : decode cX1_write 44 = .ok (.iload 5, 2) := by decide +kernel
theorem dX1_write_46 : decode cX1_write 46 = .ok (.ifCond .eq 7, 3) := by decide +kernel
theorem dX1_write_49 : decode cX1_write 49 = .ok (.iconst 1, 1) := by decide +kernel
theorem dX1_write_50 : decode cX1_write 50 = .ok (.goto 4, 3) := by decide +kernel
theorem dX1_write_53 : decode cX1_write 53 = .ok (.iconst 0, 1) := by decide +kernel
theorem dX1_write_54 : decode cX1_write 54 = .ok (.iadd, 1) := by decide +kernel
theorem dX1_write_55 : decode cX1_write 55 = .ok (.istore_n 3, 1) := by decide +kernel
theorem dX1_write_56 : decode cX1_write 56 = .ok (.iinc 4 (-8), 3) := by decide +kernel
theorem dX1_write_59 : decode cX1_write 59 = .ok (.goto (-53), 3) := by decide +kernel
theorem dX1_write_62 : decode cX1_write 62 = .ok (.aload_n 0, 1) := by decide +kernel
theorem dX1_write_63 : decode cX1_write 63 = .ok (.getfield 12, 3) := by decide +kernel
theorem dX1_write_66 : decode cX1_write 66 = .ok (.invokevirtual 66, 3) := by decide +kernel
theorem dX1_write_69 : decode cX1_write 69 = .ok (.iload_n 3, 1) := by decide +kernel
theorem dX1_write_70 : decode cX1_write 70 = .ok (.iadd, 1) := by decide +kernel
theorem dX1_write_71 : decode cX1_write 71 = .ok (.sipush 240, 3) := by decide +kernel
theorem dX1_write_74 : decode cX1_write 74 = .ok (.if_icmp .le 5, 3) := by decide +kernel
theorem dX1_write_77 : decode cX1_write 77 = .ok (.iconst 0, 1) := by decide +kernel
theorem dX1_write_78 : decode cX1_write 78 = .ok (.ireturn, 1) := by decide +kernel
theorem dX1_write_79 : decode cX1_write 79 = .ok (.bipush 56, 2) := by decide +kernel
theorem dX1_write_81 : decode cX1_write 81 = .ok (.istore 4, 2) := by decide +kernel
theorem dX1_write_83 : decode cX1_write 83 = .ok (.iload 4, 2) := by decide +kernel
theorem dX1_write_85 : decode cX1_write 85 = .ok (.ifCond .lt 36, 3) := by decide +kernel
theorem dX1_write_88 : decode cX1_write 88 = .ok (.lload_n 1, 1) := by decide +kernel
theorem dX1_write_89 : decode cX1_write 89 = .ok (.iload 4, 2) := by decide +kernel
theorem dX1_write_91 : decode cX1_write 91 = .ok (.lshr, 1) := by decide +kernel
theorem dX1_write_92 : decode cX1_write 92 = .ok (.l2i, 1) := by decide +kernel
theorem dX1_write_93 : decode cX1_write 93 = .ok (.sipush 255, 3) := by decide +kernel
theorem dX1_write_96 : decode cX1_write 96 = .ok (.iand, 1) := by decide +kernel
theorem dX1_write_97 : decode cX1_write 97 = .ok (.istore 5, 2) := by decide +kernel
theorem dX1_write_99 : decode cX1_write 99 = .ok (.iload 5, 2) := by decide +kernel
theorem dX1_write_101 : decode cX1_write 101 = .ok (.ifCond .eq 14, 3) := by decide +kernel
theorem dX1_write_104 : decode cX1_write 104 = .ok (.aload_n 0, 1) := by decide +kernel
theorem dX1_write_105 : decode cX1_write 105 = .ok (.getfield 12, 3) := by decide +kernel
theorem dX1_write_108 : decode cX1_write 108 = .ok (.iload 5, 2) := by decide +kernel
theorem dX1_write_110 : decode cX1_write 110 = .ok (.i2c, 1) := by decide +kernel
theorem dX1_write_111 : decode cX1_write 111 = .ok (.invokevirtual 70, 3) := by decide +kernel
theorem dX1_write_114 : decode cX1_write 114 = .ok (.pop, 1) := by decide +kernel
theorem dX1_write_115 : decode cX1_write 115 = .ok (.iinc 4 (-8), 3) := by decide +kernel
theorem dX1_write_118 : decode cX1_write 118 = .ok (.goto (-35), 3) := by decide +kernel
theorem dX1_write_121 : decode cX1_write 121 = .ok (.iconst 1, 1) := by decide +kernel
theorem dX1_write_122 : decode cX1_write 122 = .ok (.ireturn, 1) := by decide +kernel
abbrev MX1_write : zT := (yX1_write, cX1_write, 6, (Option.some Jvm.ClassFile.FieldType.boolean), [])
theorem plX1_write : zplain MX1_write 1 ∧ (zcodeW MX1_write ∈ lw_all ∧ Cond.initialized MX1_write.1.cls ∈ lw_all) := ⟨⟨by decide +kernel, by decide +kernel⟩, q881, q101⟩
noncomputable def f_X1_write_121 (σ : zM) : Option zO :=
  zgd (z01 1) <|
  some (0, zi 1, σ)
theorem w_X1_write_121 {g : zG} {lv : Nat} {out : zO} (σ : zM) {r : zO} (h : f_X1_write_121  σ = some r) (hk : (fun o : zO => o = out) r) : Gj g MX1_write (lv + 6) 121 [] [] σ out := by
  revert h
  unfold f_X1_write_121
  refine zst_ (gj_iconst (pc := 121) dX1_write_121 (by decide)) ?_
  refine gb_gd (fun hb => ?_)
  intro h
  cases h
  have hk : (0, zi 1, σ) = out := hk
  subst hk
  exact gj_ret (pc := 122) (t := .boolean) dX1_write_122 rfl ⟨rfl, rfl⟩ (fun _ => z01E hb)
noncomputable def f_X1_write_115 (x0 x1 x4 : Int) (σ : zM) : Option ((Int × zM) ⊕ zO) :=
  zlet (zadd x4 (-8)) fun y1 =>
  some (.inl (y1, σ))
theorem w_X1_write_115 {g : zG} {lv : Nat} {out : zO} (x0 x1 x4 : Int) (σ : zM) {r : ((Int × zM) ⊕ zO)} (h : f_X1_write_115 x0 x1 x4 σ = some r) (hk : (zKL (fun s : Int × zM => Gj g MX1_write (lv + 6) 83 [(0, zr x0), (1, zj x1), (4, zi s.1)] [] s.2 out) (fun o : zO => o = out)) r) : Gj g MX1_write (lv + 6) 115 [(0, zr x0), (1, zj x1), (4, zi x4)] [] σ out := by
  revert h
  unfold f_X1_write_115
  refine gb_iinc (pc := 115) 2 (fun y1 => [(4, zi y1), (0, zr x0), (1, zj x1)]) dX1_write_115 rfl (by decide) (fun _ => rfl) (fun y1 => ?_)
  refine zst_ (gj_goto 83 (pc := 118) dX1_write_118 (by decide)) ?_
  refine zst_ (gj_sub [1, 2, 0] rfl) ?_
  intro h
  cases h
  exact hk
noncomputable def f_X1_write_83_b (x0 x1 x4 : Int) (σ : zM) : Option ((Int × zM) ⊕ zO) :=
  if x4 < 0 then
    (f_X1_write_121 σ).map (fun r => (.inr r))
  else
    zlet ((zand (zl2i (jshr x1 x4)) 255)) fun y1 =>
    if y1 = 0 then
      f_X1_write_115 x0 x1 x4 σ
    else
      (zgf σ 100 x0).bind fun v2 =>
      zgd (zis σ 21 v2) <|
      zcr (f_J1_append_3 v2 (zi2c y1) σ) fun v3 σ4 =>
      f_X1_write_115 x0 x1 x4 σ4
noncomputable def f_X1_write_83 (x0 x1 x4 : Int) (σ : zM) : Option zO :=
  zloop (fun s : Int × zM => f_X1_write_83_b x0 x1 s.1 s.2) (x4, σ)
theorem w_X1_write_83_b {g : zG} {lv : Nat} {out : zO} (x0 x1 x4 : Int) (σ : zM) {r : ((Int × zM) ⊕ zO)} (h : f_X1_write_83_b x0 x1 x4 σ = some r) (hk : (zKL (fun s : Int × zM => Gj g MX1_write (lv + 6) 83 [(0, zr x0), (1, zj x1), (4, zi s.1)] [] s.2 out) (fun o : zO => o = out)) r) : Gj g MX1_write (lv + 6) 83 [(0, zr x0), (1, zj x1), (4, zi x4)] [] σ out := by
  revert h
  unfold f_X1_write_83_b
  refine zst_ (gj_iload 2 (pc := 83) dX1_write_83 rfl) ?_
  refine gb_if (gj_if_lt 121 (pc := 85) dX1_write_85 (by decide)) ?_ ?_
  · refine zst_ (gj_sub [] rfl) ?_
    intro h
    obtain ⟨r0, h0, rfl⟩ := zmE h
    exact w_X1_write_121 σ h0 hk
  · refine zst_ (gj_lload_n 1 (pc := 88) dX1_write_88 rfl) ?_
    refine zst_ (gj_iload 2 (pc := 89) dX1_write_89 rfl) ?_
    refine zst_ (gj_lshr (pc := 91) dX1_write_91) ?_
    refine zst_ (gj_l2i (pc := 92) dX1_write_92) ?_
    refine zst_ (gj_sipush (pc := 93) dX1_write_93 ⟨rfl, by decide⟩) ?_
    refine zst_ (gj_iand (pc := 96) dX1_write_96) ?_
    refine gb_let (fun y1 => ?_)
    refine zst_ (gj_istore (pc := 97) (ls' := [(5, zi y1), (0, zr x0), (1, zj x1), (4, zi x4)]) dX1_write_97 (by decide) rfl) ?_
    refine zst_ (gj_iload 0 (pc := 99) dX1_write_99 rfl) ?_
    refine gb_if (gj_if_eq 115 (pc := 101) dX1_write_101 (by decide)) ?_ ?_
    · refine zst_ (gj_sub [1, 2, 3] rfl) ?_
      exact fun h => w_X1_write_115 x0 x1 x4 σ h hk
    · refine zst_ (gj_aload_n 1 (pc := 104) dX1_write_104 rfl) ?_
      refine gb_get (pc := 105) fl100 dX1_write_105 q841 (Or.inl rfl) (fun v2 => ?_)
      refine zst_ (gj_iload 0 (pc := 108) dX1_write_108 rfl) ?_
      refine zst_ (gj_i2c (pc := 110) dX1_write_110) ?_
      refine gb_gd (fun hb => ?_)
      refine gb_callA (pc := 111) (as := [zr v2, zi (zi2c y1)]) (rest := []) (zCl.of (zLk_V (M := MX1_write) (ci := 20) (r := (RJ1, TJ1, 4)) plJ1_append_3.1 rfl rfl (zisE hb).1 (zisE hb).2 dX1_write_111 q883 q884 q885 q886) plJ1_append_3 (Nat.le_of_ble_eq_true rfl) (fun h => c_J1_append_3 h)) (fun v3 σ4 => ?_)
      refine zst_ (gj_pop (pc := 114) dX1_write_114 rfl) ?_
      refine zst_ (gj_sub [1, 2, 3] rfl) ?_
      exact fun h => w_X1_write_115 x0 x1 x4 σ4 h hk
theorem w_X1_write_83 {g : zG} {lv : Nat} {out : zO} (x0 x1 x4 : Int) (σ : zM) {r : zO} (h : f_X1_write_83 x0 x1 x4 σ = some r) (hk : (fun o : zO => o = out) r) : Gj g MX1_write (lv + 6) 83 [(0, zr x0), (1, zj x1), (4, zi x4)] [] σ out :=
  gj_loop (P := (fun s : Int × zM => Gj g MX1_write (lv + 6) 83 [(0, zr x0), (1, zj x1), (4, zi s.1)] [] s.2 out)) (fun s x hb hx => w_X1_write_83_b x0 x1 s.1 s.2 hb hx) h hk
noncomputable def f_X1_write_62 (x0 x1 x3 : Int) (σ : zM) : Option zO :=
  (zgf σ 100 x0).bind fun v1 =>
  zgd (zis σ 21 v1) <|
  zci (f_J1_length v1 σ) fun v2 σ3 =>
  if (zadd v2 x3) ≤ 240 then
    f_X1_write_83 x0 x1 56 σ3
  else
    zgd (z01 0) <|
    some (0, zi 0, σ3)
theorem w_X1_write_62 {g : zG} {lv : Nat} {out : zO} (x0 x1 x3 : Int) (σ : zM) {r : zO} (h : f_X1_write_62 x0 x1 x3 σ = some r) (hk : (fun o : zO => o = out) r) : Gj g MX1_write (lv + 6) 62 [(0, zr x0), (1, zj x1), (3, zi x3)] [] σ out := by
  revert h
  unfold f_X1_write_62
  refine zst_ (gj_aload_n 0 (pc := 62) dX1_write_62 rfl) ?_
  refine gb_get (pc := 63) fl100 dX1_write_63 q841 (Or.inl rfl) (fun v1 => ?_)
  refine gb_gd (fun hb => ?_)
  refine gb_callI (pc := 66) (as := [zr v1]) (rest := []) (zCl.of (zLk_V (M := MX1_write) (ci := 20) (r := (RJ1, TJ1, 4)) plJ1_length.1 rfl rfl (zisE hb).1 (zisE hb).2 dX1_write_66 q882 q603 q2455 q604) plJ1_length (Nat.le_of_ble_eq_true rfl) (fun h => c_J1_length h)) (fun v2 σ3 => ?_)
  refine zst_ (gj_iload_n 2 (pc := 69) dX1_write_69 rfl) ?_
  refine zst_ (gj_iadd (pc := 70) dX1_write_70) ?_
  refine zst_ (gj_sipush (pc := 71) dX1_write_71 ⟨rfl, by decide⟩) ?_
  refine gb_if (gj_icmp_le 79 (pc := 74) dX1_write_74 (by decide)) ?_ ?_
  · refine zst_ (gj_bipush (pc := 79) dX1_write_79 ⟨rfl, by decide⟩) ?_
    refine zst_ (gj_istore (pc := 81) (ls' := [(4, zi 56), (0, zr x0), (1, zj x1), (3, zi x3)]) dX1_write_81 (by decide) rfl) ?_
    refine zst_ (gj_sub [1, 2, 0] rfl) ?_
    exact fun h => w_X1_write_83 x0 x1 56 σ3 h hk
  · refine zst_ (gj_iconst (pc := 77) dX1_write_77 (by decide)) ?_
    refine gb_gd (fun hb => ?_)
    intro h
    cases h
    have hk : (0, zi 0, σ3) = out := hk
    subst hk
    exact gj_ret (pc := 78) (t := .boolean) dX1_write_78 rfl ⟨rfl, rfl⟩ (fun _ => z01E hb)
noncomputable def f_X1_write_54 (x0 x1 x4 t0 t1 : Int) (σ : zM) : Option ((Int × Int) ⊕ zO) :=
  zlet ((zadd t1 t0)) fun y1 =>
  zlet (zadd x4 (-8)) fun y2 =>
  some (.inl (y1, y2))
theorem w_X1_write_54 {g : zG} {lv : Nat} {out : zO} (x0 x1 x4 t0 t1 : Int) (σ : zM) {r : ((Int × Int) ⊕ zO)} (h : f_X1_write_54 x0 x1 x4 t0 t1 σ = some r) (hk : (zKL (fun s : Int × Int => Gj g MX1_write (lv + 6) 6 [(0, zr x0), (1, zj x1), (3, zi s.1), (4, zi s.2)] [] σ out) (fun o : zO => o = out)) r) : Gj g MX1_write (lv + 6) 54 [(0, zr x0), (1, zj x1), (4, zi x4)] [zi t0, zi t1] σ out := by
  revert h
  unfold f_X1_write_54
  refine zst_ (gj_iadd (pc := 54) dX1_write_54) ?_
  refine gb_let (fun y1 => ?_)
  refine zst_ (gj_istore_n (pc := 55) (ls' := [(3, zi y1), (0, zr x0), (1, zj x1), (4, zi x4)]) dX1_write_55 (by decide) rfl) ?_
  refine gb_iinc (pc := 56) 3 (fun y2 => [(4, zi y2), (3, zi y1), (0, zr x0), (1, zj x1)]) dX1_write_56 rfl (by decide) (fun _ => rfl) (fun y2 => ?_)
  refine zst_ (gj_goto 6 (pc := 59) dX1_write_59 (by decide)) ?_
  refine zst_ (gj_sub [2, 3, 1, 0] rfl) ?_
  intro h
  cases h
  exact hk
noncomputable def f_X1_write_43 (x0 x1 x3 x4 x5 : Int) (σ : zM) : Option ((Int × Int) ⊕ zO) :=
  if x5 = 0 then
    f_X1_write_54 x0 x1 x4 0 x3 σ
  else
    f_X1_write_54 x0 x1 x4 1 x3 σ
theorem w_X1_write_43 {g : zG} {lv : Nat} {out : zO} (x0 x1 x3 x4 x5 : Int) (σ : zM) {r : ((Int × Int) ⊕ zO)} (h : f_X1_write_43 x0 x1 x3 x4 x5 σ = some r) (hk : (zKL (fun s : Int × Int => Gj g MX1_write (lv + 6) 6 [(0, zr x0), (1, zj x1), (3, zi s.1), (4, zi s.2)] [] σ out) (fun o : zO => o = out)) r) : Gj g MX1_write (lv + 6) 43 [(0, zr x0), (1, zj x1), (3, zi x3), (4, zi x4), (5, zi x5)] [] σ out := by
  revert h
  unfold f_X1_write_43
  refine zst_ (gj_iload_n 2 (pc := 43) dX1_write_43 rfl) ?_
  refine zst_ (gj_iload 4 (pc := 44) dX1_write_44 rfl) ?_
  refine gb_if (gj_if_eq 53 (pc := 46) dX1_write_46 (by decide)) ?_ ?_
  · refine zst_ (gj_iconst (pc := 53) dX1_write_53 (by decide)) ?_
    refine zst_ (gj_sub [0, 1, 3] rfl) ?_
    exact fun h => w_X1_write_54 x0 x1 x4 0 x3 σ h hk
  · refine zst_ (gj_iconst (pc := 49) dX1_write_49 (by decide)) ?_
    refine zst_ (gj_goto 54 (pc := 50) dX1_write_50 (by decide)) ?_
    refine zst_ (gj_sub [0, 1, 3] rfl) ?_
    exact fun h => w_X1_write_54 x0 x1 x4 1 x3 σ h hk
noncomputable def f_X1_write_41 (σ : zM) : Option zO :=
  zgd (z01 0) <|
  some (0, zi 0, σ)
theorem w_X1_write_41 {g : zG} {lv : Nat} {out : zO} (σ : zM) {r : zO} (h : f_X1_write_41  σ = some r) (hk : (fun o : zO => o = out) r) : Gj g MX1_write (lv + 6) 41 [] [] σ out := by
  revert h
  unfold f_X1_write_41
  refine zst_ (gj_iconst (pc := 41) dX1_write_41 (by decide)) ?_
  refine gb_gd (fun hb => ?_)
  intro h
  cases h
  have hk : (0, zi 0, σ) = out := hk
  subst hk
  exact gj_ret (pc := 42) (t := .boolean) dX1_write_42 rfl ⟨rfl, rfl⟩ (fun _ => z01E hb)
noncomputable def f_X1_write_6_b (x0 x1 x3 x4 : Int) (σ : zM) : Option ((Int × Int) ⊕ zO) :=
  if x4 < 0 then
    (f_X1_write_62 x0 x1 x3 σ).map (fun r => (.inr r))
  else
    zlet ((zand (zl2i (jshr x1 x4)) 255)) fun y1 =>
    if y1 = 0 then
      f_X1_write_43 x0 x1 x3 x4 y1 σ
    else
      if y1 < 33 then
        (f_X1_write_41 σ).map (fun r => (.inr r))
      else
        if y1 ≤ 126 then
          f_X1_write_43 x0 x1 x3 x4 y1 σ
        else
          (f_X1_write_41 σ).map (fun r => (.inr r))
noncomputable def f_X1_write_6 (x0 x1 x3 x4 : Int) (σ : zM) : Option zO :=
  zloop (fun s : Int × Int => f_X1_write_6_b x0 x1 s.1 s.2 σ) (x3, x4)
theorem w_X1_write_6_b {g : zG} {lv : Nat} {out : zO} (x0 x1 x3 x4 : Int) (σ : zM) {r : ((Int × Int) ⊕ zO)} (h : f_X1_write_6_b x0 x1 x3 x4 σ = some r) (hk : (zKL (fun s : Int × Int => Gj g MX1_write (lv + 6) 6 [(0, zr x0), (1, zj x1), (3, zi s.1), (4, zi s.2)] [] σ out) (fun o : zO => o = out)) r) : Gj g MX1_write (lv + 6) 6 [(0, zr x0), (1, zj x1), (3, zi x3), (4, zi x4)] [] σ out := by
  revert h
  unfold f_X1_write_6_b
  refine zst_ (gj_iload 3 (pc := 6) dX1_write_6 rfl) ?_
  refine gb_if (gj_if_lt 62 (pc := 8) dX1_write_8 (by decide)) ?_ ?_
  · refine zst_ (gj_sub [0, 1, 2] rfl) ?_
    intro h
    obtain ⟨r0, h0, rfl⟩ := zmE h
    exact w_X1_write_62 x0 x1 x3 σ h0 hk
  · refine zst_ (gj_lload_n 1 (pc := 11) dX1_write_11 rfl) ?_
    refine zst_ (gj_iload 3 (pc := 12) dX1_write_12 rfl) ?_
    refine zst_ (gj_lshr (pc := 14) dX1_write_14) ?_
    refine zst_ (gj_l2i (pc := 15) dX1_write_15) ?_
    refine zst_ (gj_sipush (pc := 16) dX1_write_16 ⟨rfl, by decide⟩) ?_
    refine zst_ (gj_iand (pc := 19) dX1_write_19) ?_
    refine gb_let (fun y1 => ?_)
    refine zst_ (gj_istore (pc := 20) (ls' := [(5, zi y1), (0, zr x0), (1, zj x1), (3, zi x3), (4, zi x4)]) dX1_write_20 (by decide) rfl) ?_
    refine zst_ (gj_iload 0 (pc := 22) dX1_write_22 rfl) ?_
    refine gb_if (gj_if_eq 43 (pc := 24) dX1_write_24 (by decide)) ?_ ?_
    · refine zst_ (gj_sub [1, 2, 3, 4, 0] rfl) ?_
      exact fun h => w_X1_write_43 x0 x1 x3 x4 y1 σ h hk
    · refine zst_ (gj_iload 0 (pc := 27) dX1_write_27 rfl) ?_
      refine zst_ (gj_bipush (pc := 29) dX1_write_29 ⟨rfl, by decide⟩) ?_
      refine gb_if (gj_icmp_lt 41 (pc := 31) dX1_write_31 (by decide)) ?_ ?_
      · refine zst_ (gj_sub [] rfl) ?_
        intro h
        obtain ⟨r0, h0, rfl⟩ := zmE h
        exact w_X1_write_41 σ h0 hk
      · refine zst_ (gj_iload 0 (pc := 34) dX1_write_34 rfl) ?_
        refine zst_ (gj_bipush (pc := 36) dX1_write_36 ⟨rfl, by decide⟩) ?_
        refine gb_if (gj_icmp_le 43 (pc := 38) dX1_write_38 (by decide)) ?_ ?_
        · refine zst_ (gj_sub [1, 2, 3, 4, 0] rfl) ?_
          exact fun h => w_X1_write_43 x0 x1 x3 x4 y1 σ h hk
        · refine zst_ (gj_sub [] rfl) ?_
          intro h
          obtain ⟨r0, h0, rfl⟩ := zmE h
          exact w_X1_write_41 σ h0 hk
theorem w_X1_write_6 {g : zG} {lv : Nat} {out : zO} (x0 x1 x3 x4 : Int) (σ : zM) {r : zO} (h : f_X1_write_6 x0 x1 x3 x4 σ = some r) (hk : (fun o : zO => o = out) r) : Gj g MX1_write (lv + 6) 6 [(0, zr x0), (1, zj x1), (3, zi x3), (4, zi x4)] [] σ out :=
  gj_loop (P := (fun s : Int × Int => Gj g MX1_write (lv + 6) 6 [(0, zr x0), (1, zj x1), (3, zi s.1), (4, zi s.2)] [] σ out)) (fun s x hb hx => w_X1_write_6_b x0 x1 s.1 s.2 σ hb hx) h hk
noncomputable def f_X1_write (x0 x1 : Int) (σ : zM) : Option zO :=
  f_X1_write_6 x0 x1 0 56 σ
theorem c_X1_write {g : zG} {lv : Nat} {x0 x1 : Int} {σ : zM} {out : zO} (h : f_X1_write x0 x1 σ = some out) : Cj g (lv + 6) MX1_write [zr x0, zj x1] σ out := by
  refine cj_go (ls := [(0, zr x0), (1, zj x1)]) (by decide) (Nat.le_of_ble_eq_true rfl) rfl (zgen h (fun r hk => ?_))
  unfold f_X1_write
  refine zst_ (gj_iconst (pc := 0) dX1_write_0 (by decide)) ?_
  refine zst_ (gj_istore_n (pc := 1) (ls' := [(3, zi 0), (0, zr x0), (1, zj x1)]) dX1_write_1 (by decide) rfl) ?_
  refine zst_ (gj_bipush (pc := 2) dX1_write_2 ⟨rfl, by decide⟩) ?_
  refine zst_ (gj_istore (pc := 4) (ls' := [(4, zi 56), (3, zi 0), (0, zr x0), (1, zj x1)]) dX1_write_4 (by decide) rfl) ?_
  refine zst_ (gj_sub [2, 3, 1, 0] rfl) ?_
  exact fun h => w_X1_write_6 x0 x1 0 56 σ h hk
theorem q908 : (Jvm.Cond.code ({ cls := "LassoFinder", name := "place", desc := "()I" } : Jvm.MethodName) prog_1_method_8_code (1 : Nat) (Option.some Jvm.ClassFile.FieldType.int)) ∈ lw_all := lw_g (lw_at lw_m4 88 rfl) rfl
abbrev cX1_place : ByteArray := prog_1_method_8_code
def yX1_place : MethodName := ⟨RX1, "place", "()I"⟩
theorem dX1_place_0 : decode cX1_place 0 = .ok (.aload_n 0, 1) := by decide +kernel
theorem dX1_place_1 : decode cX1_place 1 = .ok (.getfield 48, 3) := by decide +kernel
theorem dX1_place_4 : decode cX1_place 4 = .ok (.ireturn, 1) := by decide +kernel
abbrev MX1_place : zT := (yX1_place, cX1_place, 1, (Option.some Jvm.ClassFile.FieldType.int), [])
theorem plX1_place : zplain MX1_place 0 ∧ (zcodeW MX1_place ∈ lw_all ∧ Cond.initialized MX1_place.1.cls ∈ lw_all) := ⟨⟨by decide +kernel, by decide +kernel⟩, q908, q101⟩
noncomputable def f_X1_place (x0 : Int) (σ : zM) : Option zO :=
  (zgf σ 108 x0).bind fun v1 =>
  some (0, zi v1, σ)
theorem c_X1_place {g : zG} {lv : Nat} {x0 : Int} {σ : zM} {out : zO} (h : f_X1_place x0 σ = some out) : Cj g (lv) MX1_place [zr x0] σ out := by
  refine cj_go (ls := [(0, zr x0)]) (by decide) (Nat.le_of_ble_eq_true rfl) rfl (zgen h (fun r hk => ?_))
  unfold f_X1_place
  refine zst_ (gj_aload_n 0 (pc := 0) dX1_place_0 rfl) ?_
  refine gb_get (pc := 1) fl108 dX1_place_1 q849 (Or.inl rfl) (fun v1 => ?_)
  intro h
  cases h
  have hk : (0, zi v1, σ) = out := hk
  subst hk
  exact gj_ret (pc := 4) (t := .int) dX1_place_4 rfl ⟨rfl, rfl⟩ (fun h => h)
theorem q912 : (Jvm.Cond.code ({ cls := "LassoFinder", name := "stem", desc := "()I" } : Jvm.MethodName) prog_1_method_10_code (1 : Nat) (Option.some Jvm.ClassFile.FieldType.int)) ∈ lw_all := lw_g (lw_at lw_m4 92 rfl) rfl
abbrev cX1_stem : ByteArray := prog_1_method_10_code
def yX1_stem : MethodName := ⟨RX1, "stem", "()I"⟩
theorem dX1_stem_0 : decode cX1_stem 0 = .ok (.aload_n 0, 1) := by decide +kernel
theorem dX1_stem_1 : decode cX1_stem 1 = .ok (.getfield 82, 3) := by decide +kernel
theorem dX1_stem_4 : decode cX1_stem 4 = .ok (.ifCond .eq 13, 3) := by decide +kernel
theorem dX1_stem_7 : decode cX1_stem 7 = .ok (.aload_n 0, 1) := by decide +kernel
theorem dX1_stem_8 : decode cX1_stem 8 = .ok (.getfield 44, 3) := by decide +kernel
theorem dX1_stem_11 : decode cX1_stem 11 = .ok (.getfield 137, 3) := by decide +kernel
theorem dX1_stem_14 : decode cX1_stem 14 = .ok (.goto 4, 3) := by decide +kernel
theorem dX1_stem_17 : decode cX1_stem 17 = .ok (.iconst (-1), 1) := by decide +kernel
theorem dX1_stem_18 : decode cX1_stem 18 = .ok (.ireturn, 1) := by decide +kernel
abbrev MX1_stem : zT := (yX1_stem, cX1_stem, 1, (Option.some Jvm.ClassFile.FieldType.int), [])
theorem plX1_stem : zplain MX1_stem 0 ∧ (zcodeW MX1_stem ∈ lw_all ∧ Cond.initialized MX1_stem.1.cls ∈ lw_all) := ⟨⟨by decide +kernel, by decide +kernel⟩, q912, q101⟩
noncomputable def f_X1_stem_18 (t0 : Int) (σ : zM) : Option zO :=
  some (0, zi t0, σ)
theorem w_X1_stem_18 {g : zG} {lv : Nat} {out : zO} (t0 : Int) (σ : zM) {r : zO} (h : f_X1_stem_18 t0 σ = some r) (hk : (fun o : zO => o = out) r) : Gj g MX1_stem (lv) 18 [] [zi t0] σ out := by
  revert h
  unfold f_X1_stem_18
  intro h
  cases h
  have hk : (0, zi t0, σ) = out := hk
  subst hk
  exact gj_ret (pc := 18) (t := .int) dX1_stem_18 rfl ⟨rfl, rfl⟩ (fun h => h)
noncomputable def f_X1_stem (x0 : Int) (σ : zM) : Option zO :=
  (zgf σ 107 x0).bind fun v1 =>
  if v1 = 0 then
    f_X1_stem_18 (-1) σ
  else
    (zgf σ 104 x0).bind fun v2 =>
    (zgf σ 821 v2).bind fun v3 =>
    f_X1_stem_18 v3 σ
theorem c_X1_stem {g : zG} {lv : Nat} {x0 : Int} {σ : zM} {out : zO} (h : f_X1_stem x0 σ = some out) : Cj g (lv) MX1_stem [zr x0] σ out := by
  refine cj_go (ls := [(0, zr x0)]) (by decide) (Nat.le_of_ble_eq_true rfl) rfl (zgen h (fun r hk => ?_))
  unfold f_X1_stem
  refine zst_ (gj_aload_n 0 (pc := 0) dX1_stem_0 rfl) ?_
  refine gb_get (pc := 1) fl107 dX1_stem_1 q848 (Or.inl rfl) (fun v1 => ?_)
  refine gb_if (gj_if_eq 17 (pc := 4) dX1_stem_4 (by decide)) ?_ ?_
  · refine zst_ (gj_iconst (pc := 17) dX1_stem_17 (by decide)) ?_
    refine zst_ (gj_sub [] rfl) ?_
    exact fun h => w_X1_stem_18 (-1) σ h hk
  · refine zst_ (gj_aload_n 0 (pc := 7) dX1_stem_7 rfl) ?_
    refine gb_get (pc := 8) fl104 dX1_stem_8 q845 (Or.inl rfl) (fun v2 => ?_)
    refine gb_getNe (pc := 11) fl821 dX1_stem_11 q788 (Or.inl rfl) (fun v3 => ?_)
    refine zst_ (gj_goto 18 (pc := 14) dX1_stem_14 (by decide)) ?_
    refine zst_ (gj_sub [] rfl) ?_
    exact fun h => w_X1_stem_18 v3 σ h hk
theorem q916 : (Jvm.Cond.code ({ cls := "LassoFinder", name := "cycle", desc := "()I" } : Jvm.MethodName) prog_1_method_11_code (1 : Nat) (Option.some Jvm.ClassFile.FieldType.int)) ∈ lw_all := lw_g (lw_at lw_m4 96 rfl) rfl
abbrev cX1_cycle : ByteArray := prog_1_method_11_code
def yX1_cycle : MethodName := ⟨RX1, "cycle", "()I"⟩
theorem dX1_cycle_0 : decode cX1_cycle 0 = .ok (.aload_n 0, 1) := by decide +kernel
theorem dX1_cycle_1 : decode cX1_cycle 1 = .ok (.getfield 82, 3) := by decide +kernel
theorem dX1_cycle_4 : decode cX1_cycle 4 = .ok (.ifCond .eq 13, 3) := by decide +kernel
theorem dX1_cycle_7 : decode cX1_cycle 7 = .ok (.aload_n 0, 1) := by decide +kernel
theorem dX1_cycle_8 : decode cX1_cycle 8 = .ok (.getfield 44, 3) := by decide +kernel
theorem dX1_cycle_11 : decode cX1_cycle 11 = .ok (.getfield 140, 3) := by decide +kernel
theorem dX1_cycle_14 : decode cX1_cycle 14 = .ok (.goto 4, 3) := by decide +kernel
theorem dX1_cycle_17 : decode cX1_cycle 17 = .ok (.iconst 0, 1) := by decide +kernel
theorem dX1_cycle_18 : decode cX1_cycle 18 = .ok (.ireturn, 1) := by decide +kernel
abbrev MX1_cycle : zT := (yX1_cycle, cX1_cycle, 1, (Option.some Jvm.ClassFile.FieldType.int), [])
theorem plX1_cycle : zplain MX1_cycle 0 ∧ (zcodeW MX1_cycle ∈ lw_all ∧ Cond.initialized MX1_cycle.1.cls ∈ lw_all) := ⟨⟨by decide +kernel, by decide +kernel⟩, q916, q101⟩
noncomputable def f_X1_cycle_18 (t0 : Int) (σ : zM) : Option zO :=
  some (0, zi t0, σ)
theorem w_X1_cycle_18 {g : zG} {lv : Nat} {out : zO} (t0 : Int) (σ : zM) {r : zO} (h : f_X1_cycle_18 t0 σ = some r) (hk : (fun o : zO => o = out) r) : Gj g MX1_cycle (lv) 18 [] [zi t0] σ out := by
  revert h
  unfold f_X1_cycle_18
  intro h
  cases h
  have hk : (0, zi t0, σ) = out := hk
  subst hk
  exact gj_ret (pc := 18) (t := .int) dX1_cycle_18 rfl ⟨rfl, rfl⟩ (fun h => h)
noncomputable def f_X1_cycle (x0 : Int) (σ : zM) : Option zO :=
  (zgf σ 107 x0).bind fun v1 =>
  if v1 = 0 then
    f_X1_cycle_18 0 σ
  else
    (zgf σ 104 x0).bind fun v2 =>
    (zgf σ 822 v2).bind fun v3 =>
    f_X1_cycle_18 v3 σ
theorem c_X1_cycle {g : zG} {lv : Nat} {x0 : Int} {σ : zM} {out : zO} (h : f_X1_cycle x0 σ = some out) : Cj g (lv) MX1_cycle [zr x0] σ out := by
  refine cj_go (ls := [(0, zr x0)]) (by decide) (Nat.le_of_ble_eq_true rfl) rfl (zgen h (fun r hk => ?_))
  unfold f_X1_cycle
  refine zst_ (gj_aload_n 0 (pc := 0) dX1_cycle_0 rfl) ?_
  refine gb_get (pc := 1) fl107 dX1_cycle_1 q848 (Or.inl rfl) (fun v1 => ?_)
  refine gb_if (gj_if_eq 17 (pc := 4) dX1_cycle_4 (by decide)) ?_ ?_
  · refine zst_ (gj_iconst (pc := 17) dX1_cycle_17 (by decide)) ?_
    refine zst_ (gj_sub [] rfl) ?_
    exact fun h => w_X1_cycle_18 0 σ h hk
  · refine zst_ (gj_aload_n 0 (pc := 7) dX1_cycle_7 rfl) ?_
    refine gb_get (pc := 8) fl104 dX1_cycle_8 q845 (Or.inl rfl) (fun v2 => ?_)
    refine gb_getNe (pc := 11) fl822 dX1_cycle_11 q790 (Or.inl rfl) (fun v3 => ?_)
    refine zst_ (gj_goto 18 (pc := 14) dX1_cycle_14 (by decide)) ?_
    refine zst_ (gj_sub [] rfl) ?_
    exact fun h => w_X1_cycle_18 v3 σ h hk
theorem q932 : (Jvm.Cond.code ({ cls := "LassoFinder", name := "look", desc := "()Z" } : Jvm.MethodName) prog_1_method_17_code (1 : Nat) (Option.some Jvm.ClassFile.FieldType.boolean)) ∈ lw_all := lw_g (lw_at lw_m4 112 rfl) rfl
abbrev cX1_look : ByteArray := prog_1_method_17_code
def yX1_look : MethodName := ⟨RX1, "look", "()Z"⟩
theorem dX1_look_0 : decode cX1_look 0 = .ok (.aload_n 0, 1) := by decide +kernel
theorem dX1_look_1 : decode cX1_look 1 = .ok (.getfield 56, 3) := by decide +kernel
theorem dX1_look_4 : decode cX1_look 4 = .ok (.ifCond .lt 23, 3) := by decide +kernel
theorem dX1_look_7 : decode cX1_look 7 = .ok (.aload_n 0, 1) := by decide +kernel
theorem dX1_look_8 : decode cX1_look 8 = .ok (.getfield 19, 3) := by decide +kernel
theorem dX1_look_11 : decode cX1_look 11 = .ok (.aload_n 0, 1) := by decide +kernel
theorem dX1_look_12 : decode cX1_look 12 = .ok (.getfield 52, 3) := by decide +kernel
theorem dX1_look_15 : decode cX1_look 15 = .ok (.aload_n 0, 1) := by decide +kernel
theorem dX1_look_16 : decode cX1_look 16 = .ok (.getfield 56, 3) := by decide +kernel
theorem dX1_look_19 : decode cX1_look 19 = .ok (.iaload, 1) := by decide +kernel
theorem dX1_look_20 : decode cX1_look 20 = .ok (.aload_n 0, 1) := by decide +kernel
theorem dX1_look_21 : decode cX1_look 21 = .ok (.getfield 62, 3) := by decide +kernel
theorem dX1_look_24 : decode cX1_look 24 = .ok (.invokevirtual 178, 3) := by decide +kernel
theorem dX1_look_27 : decode cX1_look 27 = .ok (.aload_n 0, 1) := by decide +kernel
theorem dX1_look_28 : decode cX1_look 28 = .ok (.getfield 56, 3) := by decide +kernel
theorem dX1_look_31 : decode cX1_look 31 = .ok (.ifCond .lt 7, 3) := by decide +kernel
theorem dX1_look_34 : decode cX1_look 34 = .ok (.iconst 1, 1) := by decide +kernel
theorem dX1_look_35 : decode cX1_look 35 = .ok (.goto 4, 3) := by decide +kernel
theorem dX1_look_38 : decode cX1_look 38 = .ok (.iconst 0, 1) := by decide +kernel
theorem dX1_look_39 : decode cX1_look 39 = .ok (.ireturn, 1) := by decide +kernel
abbrev MX1_look : zT := (yX1_look, cX1_look, 1, (Option.some Jvm.ClassFile.FieldType.boolean), [])
theorem plX1_look : zplain MX1_look 0 ∧ (zcodeW MX1_look ∈ lw_all ∧ Cond.initialized MX1_look.1.cls ∈ lw_all) := ⟨⟨by decide +kernel, by decide +kernel⟩, q932, q101⟩
noncomputable def f_X1_look_39 (t0 : Int) (σ : zM) : Option zO :=
  zgd (z01 t0) <|
  some (0, zi t0, σ)
theorem w_X1_look_39 {g : zG} {lv : Nat} {out : zO} (t0 : Int) (σ : zM) {r : zO} (h : f_X1_look_39 t0 σ = some r) (hk : (fun o : zO => o = out) r) : Gj g MX1_look (lv + 1) 39 [] [zi t0] σ out := by
  revert h
  unfold f_X1_look_39
  refine gb_gd (fun hb => ?_)
  intro h
  cases h
  have hk : (0, zi t0, σ) = out := hk
  subst hk
  exact gj_ret (pc := 39) (t := .boolean) dX1_look_39 rfl ⟨rfl, rfl⟩ (fun _ => z01E hb)
noncomputable def f_X1_look_27 (x0 : Int) (σ : zM) : Option zO :=
  (zgf σ 110 x0).bind fun v1 =>
  if v1 < 0 then
    f_X1_look_39 0 σ
  else
    f_X1_look_39 1 σ
theorem w_X1_look_27 {g : zG} {lv : Nat} {out : zO} (x0 : Int) (σ : zM) {r : zO} (h : f_X1_look_27 x0 σ = some r) (hk : (fun o : zO => o = out) r) : Gj g MX1_look (lv + 1) 27 [(0, zr x0)] [] σ out := by
  revert h
  unfold f_X1_look_27
  refine zst_ (gj_aload_n 0 (pc := 27) dX1_look_27 rfl) ?_
  refine gb_get (pc := 28) fl110 dX1_look_28 q851 (Or.inl rfl) (fun v1 => ?_)
  refine gb_if (gj_if_lt 38 (pc := 31) dX1_look_31 (by decide)) ?_ ?_
  · refine zst_ (gj_iconst (pc := 38) dX1_look_38 (by decide)) ?_
    refine zst_ (gj_sub [] rfl) ?_
    exact fun h => w_X1_look_39 0 σ h hk
  · refine zst_ (gj_iconst (pc := 34) dX1_look_34 (by decide)) ?_
    refine zst_ (gj_goto 39 (pc := 35) dX1_look_35 (by decide)) ?_
    refine zst_ (gj_sub [] rfl) ?_
    exact fun h => w_X1_look_39 1 σ h hk
noncomputable def f_X1_look (x0 : Int) (σ : zM) : Option zO :=
  (zgf σ 110 x0).bind fun v1 =>
  if v1 < 0 then
    f_X1_look_27 x0 σ
  else
    (zgf σ 101 x0).bind fun v2 =>
    (zgf σ 109 x0).bind fun v3 =>
    (zgf σ 110 x0).bind fun v4 =>
    (zga σ 101 v3 v4).bind fun v5 =>
    (zgf σ 111 x0).bind fun v6 =>
    zgd (zis σ 3 v2) <|
    zcv (f_X2_unpack v2 v5 v6 σ) fun σ7 =>
    f_X1_look_27 x0 σ7
theorem c_X1_look {g : zG} {lv : Nat} {x0 : Int} {σ : zM} {out : zO} (h : f_X1_look x0 σ = some out) : Cj g (lv + 1) MX1_look [zr x0] σ out := by
  refine cj_go (ls := [(0, zr x0)]) (by decide) (Nat.le_of_ble_eq_true rfl) rfl (zgen h (fun r hk => ?_))
  unfold f_X1_look
  refine zst_ (gj_aload_n 0 (pc := 0) dX1_look_0 rfl) ?_
  refine gb_get (pc := 1) fl110 dX1_look_1 q851 (Or.inl rfl) (fun v1 => ?_)
  refine gb_if (gj_if_lt 27 (pc := 4) dX1_look_4 (by decide)) ?_ ?_
  · exact fun h => w_X1_look_27 x0 σ h hk
  · refine zst_ (gj_aload_n 0 (pc := 7) dX1_look_7 rfl) ?_
    refine gb_get (pc := 8) fl101 dX1_look_8 q842 (Or.inl rfl) (fun v2 => ?_)
    refine zst_ (gj_aload_n 0 (pc := 11) dX1_look_11 rfl) ?_
    refine gb_get (pc := 12) fl109 dX1_look_12 q850 (Or.inl rfl) (fun v3 => ?_)
    refine zst_ (gj_aload_n 0 (pc := 15) dX1_look_15 rfl) ?_
    refine gb_get (pc := 16) fl110 dX1_look_16 q851 (Or.inl rfl) (fun v4 => ?_)
    refine gb_iald (pc := 19) dX1_look_19 (fun v5 => ?_)
    refine zst_ (gj_aload_n 0 (pc := 20) dX1_look_20 rfl) ?_
    refine gb_get (pc := 21) fl111 dX1_look_21 q852 (Or.inl rfl) (fun v6 => ?_)
    refine gb_gd (fun hb => ?_)
    refine gb_callV (pc := 24) (as := [zr v2, zi v5, zr v6]) (rest := []) (zCl.of (zLk_V (M := MX1_look) (ci := 2) (r := (RX2, TX2, 22)) plX2_unpack.1 rfl rfl (zisE hb).1 (zisE hb).2 dX1_look_24 q933 q934 q935 q936) plX2_unpack (Nat.le_of_ble_eq_true rfl) (fun h => c_X2_unpack h)) (fun σ7 => ?_)
    exact fun h => w_X1_look_27 x0 σ7 h hk
theorem q208 : (Jvm.Cond.fieldLinkNest "LassoFinder" (189 : Nat) "LassoFinder$Moment" "numbers" "[I" "LassoFinder") ∈ lw_tbl := lw_at lw_m1 108 rfl
theorem q271 : (Jvm.Cond.fieldLinkNest "LassoFinder" (186 : Nat) "LassoFinder$Model" "sorts" "[I" "LassoFinder") ∈ lw_tbl := lw_at lw_m1 171 rfl
theorem q928 : (Jvm.Cond.code ({ cls := "LassoFinder", name := "value", desc := "(I)I" } : Jvm.MethodName) prog_1_method_18_code (2 : Nat) (Option.some Jvm.ClassFile.FieldType.int)) ∈ lw_all := lw_g (lw_at lw_m4 108 rfl) rfl
theorem q929 : (Jvm.Cond.methodLink "LassoFinder" (182 : Nat) ({ cls := "LassoFinder", name := "look", desc := "()Z" } : Jvm.MethodName)) ∈ lw_all := lw_g (lw_at lw_m4 109 rfl) rfl
theorem q931 : (Jvm.Cond.instanceMethod ({ cls := "LassoFinder", name := "look", desc := "()Z" } : Jvm.MethodName)) ∈ lw_all := lw_g (lw_at lw_m4 111 rfl) rfl
abbrev cX1_value : ByteArray := prog_1_method_18_code
def yX1_value : MethodName := ⟨RX1, "value", "(I)I"⟩
theorem dX1_value_0 : decode cX1_value 0 = .ok (.iload_n 1, 1) := by decide +kernel
theorem dX1_value_1 : decode cX1_value 1 = .ok (.ifCond .lt 28, 3) := by decide +kernel
theorem dX1_value_4 : decode cX1_value 4 = .ok (.iload_n 1, 1) := by decide +kernel
theorem dX1_value_5 : decode cX1_value 5 = .ok (.bipush 8, 2) := by decide +kernel
theorem dX1_value_7 : decode cX1_value 7 = .ok (.if_icmp .ge 22, 3) := by decide +kernel
theorem dX1_value_10 : decode cX1_value 10 = .ok (.aload_n 0, 1) := by decide +kernel
theorem dX1_value_11 : decode cX1_value 11 = .ok (.invokevirtual 182, 3) := by decide +kernel
theorem dX1_value_14 : decode cX1_value 14 = .ok (.ifCond .eq 15, 3) := by decide +kernel
theorem dX1_value_17 : decode cX1_value 17 = .ok (.aload_n 0, 1) := by decide +kernel
theorem dX1_value_18 : decode cX1_value 18 = .ok (.getfield 19, 3) := by decide +kernel
theorem dX1_value_21 : decode cX1_value 21 = .ok (.getfield 186, 3) := by decide +kernel
theorem dX1_value_24 : decode cX1_value 24 = .ok (.iload_n 1, 1) := by decide +kernel
theorem dX1_value_25 : decode cX1_value 25 = .ok (.iaload, 1) := by decide +kernel
theorem dX1_value_26 : decode cX1_value 26 = .ok (.ifCond .ne 7, 3) := by decide +kernel
theorem dX1_value_29 : decode cX1_value 29 = .ok (.iconst (-1), 1) := by decide +kernel
theorem dX1_value_30 : decode cX1_value 30 = .ok (.goto 12, 3) := by decide +kernel
theorem dX1_value_33 : decode cX1_value 33 = .ok (.aload_n 0, 1) := by decide +kernel
theorem dX1_value_34 : decode cX1_value 34 = .ok (.getfield 62, 3) := by decide +kernel
theorem dX1_value_37 : decode cX1_value 37 = .ok (.getfield 189, 3) := by decide +kernel
theorem dX1_value_40 : decode cX1_value 40 = .ok (.iload_n 1, 1) := by decide +kernel
theorem dX1_value_41 : decode cX1_value 41 = .ok (.iaload, 1) := by decide +kernel
theorem dX1_value_42 : decode cX1_value 42 = .ok (.ireturn, 1) := by decide +kernel
abbrev MX1_value : zT := (yX1_value, cX1_value, 2, (Option.some Jvm.ClassFile.FieldType.int), [])
theorem plX1_value : zplain MX1_value 1 ∧ (zcodeW MX1_value ∈ lw_all ∧ Cond.initialized MX1_value.1.cls ∈ lw_all) := ⟨⟨by decide +kernel, by decide +kernel⟩, q928, q101⟩
noncomputable def f_X1_value_42 (t0 : Int) (σ : zM) : Option zO :=
  some (0, zi t0, σ)
theorem w_X1_value_42 {g : zG} {lv : Nat} {out : zO} (t0 : Int) (σ : zM) {r : zO} (h : f_X1_value_42 t0 σ = some r) (hk : (fun o : zO => o = out) r) : Gj g MX1_value (lv + 2) 42 [] [zi t0] σ out := by
  revert h
  unfold f_X1_value_42
  intro h
  cases h
  have hk : (0, zi t0, σ) = out := hk
  subst hk
  exact gj_ret (pc := 42) (t := .int) dX1_value_42 rfl ⟨rfl, rfl⟩ (fun h => h)
noncomputable def f_X1_value_29 (σ : zM) : Option zO :=
  f_X1_value_42 (-1) σ
theorem w_X1_value_29 {g : zG} {lv : Nat} {out : zO} (σ : zM) {r : zO} (h : f_X1_value_29  σ = some r) (hk : (fun o : zO => o = out) r) : Gj g MX1_value (lv + 2) 29 [] [] σ out := by
  revert h
  unfold f_X1_value_29
  refine zst_ (gj_iconst (pc := 29) dX1_value_29 (by decide)) ?_
  refine zst_ (gj_goto 42 (pc := 30) dX1_value_30 (by decide)) ?_
  exact fun h => w_X1_value_42 (-1) σ h hk
noncomputable def f_X1_value (x0 x1 : Int) (σ : zM) : Option zO :=
  if x1 < 0 then
    f_X1_value_29 σ
  else
    if 8 ≤ x1 then
      f_X1_value_29 σ
    else
      zgd (zis σ 2 x0) <|
      zci (f_X1_look x0 σ) fun v1 σ2 =>
      if v1 = 0 then
        f_X1_value_29 σ2
      else
        (zgf σ2 101 x0).bind fun v3 =>
        (zgf σ2 200 v3).bind fun v4 =>
        (zga σ2 101 v4 x1).bind fun v5 =>
        if v5 ≠ 0 then
          (zgf σ2 111 x0).bind fun v6 =>
          (zgf σ2 300 v6).bind fun v7 =>
          (zga σ2 101 v7 x1).bind fun v8 =>
          f_X1_value_42 v8 σ2
        else
          f_X1_value_29 σ2
theorem c_X1_value {g : zG} {lv : Nat} {x0 x1 : Int} {σ : zM} {out : zO} (h : f_X1_value x0 x1 σ = some out) : Cj g (lv + 2) MX1_value [zr x0, zi x1] σ out := by
  refine cj_go (ls := [(0, zr x0), (1, zi x1)]) (by decide) (Nat.le_of_ble_eq_true rfl) rfl (zgen h (fun r hk => ?_))
  unfold f_X1_value
  refine zst_ (gj_iload_n 1 (pc := 0) dX1_value_0 rfl) ?_
  refine gb_if (gj_if_lt 29 (pc := 1) dX1_value_1 (by decide)) ?_ ?_
  · refine zst_ (gj_sub [] rfl) ?_
    exact fun h => w_X1_value_29 σ h hk
  · refine zst_ (gj_iload_n 1 (pc := 4) dX1_value_4 rfl) ?_
    refine zst_ (gj_bipush (pc := 5) dX1_value_5 ⟨rfl, by decide⟩) ?_
    refine gb_if (gj_icmp_ge 29 (pc := 7) dX1_value_7 (by decide)) ?_ ?_
    · refine zst_ (gj_sub [] rfl) ?_
      exact fun h => w_X1_value_29 σ h hk
    · refine zst_ (gj_aload_n 0 (pc := 10) dX1_value_10 rfl) ?_
      refine gb_gd (fun hb => ?_)
      refine gb_callI (pc := 11) (as := [zr x0]) (rest := []) (zCl.of (zLk_V (M := MX1_value) (ci := 1) (r := (RX1, TX1, 12)) plX1_look.1 rfl rfl (zisE hb).1 (zisE hb).2 dX1_value_11 q929 q931 qs1 q932) plX1_look (Nat.le_of_ble_eq_true rfl) (fun h => c_X1_look h)) (fun v1 σ2 => ?_)
      refine gb_if (gj_if_eq 29 (pc := 14) dX1_value_14 (by decide)) ?_ ?_
      · refine zst_ (gj_sub [] rfl) ?_
        exact fun h => w_X1_value_29 σ2 h hk
      · refine zst_ (gj_aload_n 0 (pc := 17) dX1_value_17 rfl) ?_
        refine gb_get (pc := 18) fl101 dX1_value_18 q842 (Or.inl rfl) (fun v3 => ?_)
        refine gb_getNe (pc := 21) fl200 dX1_value_21 q271 (Or.inl rfl) (fun v4 => ?_)
        refine zst_ (gj_iload_n 1 (pc := 24) dX1_value_24 rfl) ?_
        refine gb_iald (pc := 25) dX1_value_25 (fun v5 => ?_)
        refine gb_if (gj_if_ne 33 (pc := 26) dX1_value_26 (by decide)) ?_ ?_
        · refine zst_ (gj_aload_n 0 (pc := 33) dX1_value_33 rfl) ?_
          refine gb_get (pc := 34) fl111 dX1_value_34 q852 (Or.inl rfl) (fun v6 => ?_)
          refine gb_getNe (pc := 37) fl300 dX1_value_37 q208 (Or.inl rfl) (fun v7 => ?_)
          refine zst_ (gj_iload_n 1 (pc := 40) dX1_value_40 rfl) ?_
          refine gb_iald (pc := 41) dX1_value_41 (fun v8 => ?_)
          refine zst_ (gj_sub [] rfl) ?_
          exact fun h => w_X1_value_42 v8 σ2 h hk
        · refine zst_ (gj_sub [] rfl) ?_
          exact fun h => w_X1_value_29 σ2 h hk
theorem q211 : (Jvm.Cond.fieldLinkNest "LassoFinder" (192 : Nat) "LassoFinder$Moment" "queues" "[[I" "LassoFinder") ∈ lw_tbl := lw_at lw_m1 111 rfl
theorem q940 : (Jvm.Cond.code ({ cls := "LassoFinder", name := "message", desc := "(II)I" } : Jvm.MethodName) prog_1_method_19_code (3 : Nat) (Option.some Jvm.ClassFile.FieldType.int)) ∈ lw_all := lw_g (lw_at lw_m4 120 rfl) rfl
abbrev cX1_message : ByteArray := prog_1_method_19_code
def yX1_message : MethodName := ⟨RX1, "message", "(II)I"⟩
theorem dX1_message_0 : decode cX1_message 0 = .ok (.iload_n 1, 1) := by decide +kernel
theorem dX1_message_1 : decode cX1_message 1 = .ok (.ifCond .lt 29, 3) := by decide +kernel
theorem dX1_message_4 : decode cX1_message 4 = .ok (.iload_n 1, 1) := by decide +kernel
theorem dX1_message_5 : decode cX1_message 5 = .ok (.bipush 8, 2) := by decide +kernel
theorem dX1_message_7 : decode cX1_message 7 = .ok (.if_icmp .ge 23, 3) := by decide +kernel
theorem dX1_message_10 : decode cX1_message 10 = .ok (.aload_n 0, 1) := by decide +kernel
theorem dX1_message_11 : decode cX1_message 11 = .ok (.invokevirtual 182, 3) := by decide +kernel
theorem dX1_message_14 : decode cX1_message 14 = .ok (.ifCond .eq 16, 3) := by decide +kernel
theorem dX1_message_17 : decode cX1_message 17 = .ok (.aload_n 0, 1) := by decide +kernel
theorem dX1_message_18 : decode cX1_message 18 = .ok (.getfield 19, 3) := by decide +kernel
theorem dX1_message_21 : decode cX1_message 21 = .ok (.getfield 186, 3) := by decide +kernel
theorem dX1_message_24 : decode cX1_message 24 = .ok (.iload_n 1, 1) := by decide +kernel
theorem dX1_message_25 : decode cX1_message 25 = .ok (.iaload, 1) := by decide +kernel
theorem dX1_message_26 : decode cX1_message 26 = .ok (.iconst 2, 1) := by decide +kernel
theorem dX1_message_27 : decode cX1_message 27 = .ok (.if_icmp .eq 5, 3) := by decide +kernel
theorem dX1_message_30 : decode cX1_message 30 = .ok (.iconst (-1), 1) := by decide +kernel
theorem dX1_message_31 : decode cX1_message 31 = .ok (.ireturn, 1) := by decide +kernel
theorem dX1_message_32 : decode cX1_message 32 = .ok (.iload_n 2, 1) := by decide +kernel
theorem dX1_message_33 : decode cX1_message 33 = .ok (.ifCond .lt 16, 3) := by decide +kernel
theorem dX1_message_36 : decode cX1_message 36 = .ok (.iload_n 2, 1) := by decide +kernel
theorem dX1_message_37 : decode cX1_message 37 = .ok (.aload_n 0, 1) := by decide +kernel
theorem dX1_message_38 : decode cX1_message 38 = .ok (.getfield 62, 3) := by decide +kernel
theorem dX1_message_41 : decode cX1_message 41 = .ok (.getfield 189, 3) := by decide +kernel
theorem dX1_message_44 : decode cX1_message 44 = .ok (.iload_n 1, 1) := by decide +kernel
theorem dX1_message_45 : decode cX1_message 45 = .ok (.iaload, 1) := by decide +kernel
theorem dX1_message_46 : decode cX1_message 46 = .ok (.if_icmp .lt 7, 3) := by decide +kernel
theorem dX1_message_49 : decode cX1_message 49 = .ok (.iconst (-1), 1) := by decide +kernel
theorem dX1_message_50 : decode cX1_message 50 = .ok (.goto 14, 3) := by decide +kernel
theorem dX1_message_53 : decode cX1_message 53 = .ok (.aload_n 0, 1) := by decide +kernel
theorem dX1_message_54 : decode cX1_message 54 = .ok (.getfield 62, 3) := by decide +kernel
theorem dX1_message_57 : decode cX1_message 57 = .ok (.getfield 192, 3) := by decide +kernel
theorem dX1_message_60 : decode cX1_message 60 = .ok (.iload_n 1, 1) := by decide +kernel
theorem dX1_message_61 : decode cX1_message 61 = .ok (.aaload, 1) := by decide +kernel
theorem dX1_message_62 : decode cX1_message 62 = .ok (.iload_n 2, 1) := by decide +kernel
theorem dX1_message_63 : decode cX1_message 63 = .ok (.iaload, 1) := by decide +kernel
theorem dX1_message_64 : decode cX1_message 64 = .ok (.ireturn, 1) := by decide +kernel
abbrev MX1_message : zT := (yX1_message, cX1_message, 3, (Option.some Jvm.ClassFile.FieldType.int), [])
theorem plX1_message : zplain MX1_message 2 ∧ (zcodeW MX1_message ∈ lw_all ∧ Cond.initialized MX1_message.1.cls ∈ lw_all) := ⟨⟨by decide +kernel, by decide +kernel⟩, q940, q101⟩
noncomputable def f_X1_message_30 (σ : zM) : Option zO :=
  some (0, zi (-1), σ)
theorem w_X1_message_30 {g : zG} {lv : Nat} {out : zO} (σ : zM) {r : zO} (h : f_X1_message_30  σ = some r) (hk : (fun o : zO => o = out) r) : Gj g MX1_message (lv + 2) 30 [] [] σ out := by
  revert h
  unfold f_X1_message_30
  refine zst_ (gj_iconst (pc := 30) dX1_message_30 (by decide)) ?_
  intro h
  cases h
  have hk : (0, zi (-1), σ) = out := hk
  subst hk
  exact gj_ret (pc := 31) (t := .int) dX1_message_31 rfl ⟨rfl, rfl⟩ (fun h => h)
noncomputable def f_X1_message_64 (t0 : Int) (σ : zM) : Option zO :=
  some (0, zi t0, σ)
theorem w_X1_message_64 {g : zG} {lv : Nat} {out : zO} (t0 : Int) (σ : zM) {r : zO} (h : f_X1_message_64 t0 σ = some r) (hk : (fun o : zO => o = out) r) : Gj g MX1_message (lv + 2) 64 [] [zi t0] σ out := by
  revert h
  unfold f_X1_message_64
  intro h
  cases h
  have hk : (0, zi t0, σ) = out := hk
  subst hk
  exact gj_ret (pc := 64) (t := .int) dX1_message_64 rfl ⟨rfl, rfl⟩ (fun h => h)
noncomputable def f_X1_message_49 (σ : zM) : Option zO :=
  f_X1_message_64 (-1) σ
theorem w_X1_message_49 {g : zG} {lv : Nat} {out : zO} (σ : zM) {r : zO} (h : f_X1_message_49  σ = some r) (hk : (fun o : zO => o = out) r) : Gj g MX1_message (lv + 2) 49 [] [] σ out := by
  revert h
  unfold f_X1_message_49
  refine zst_ (gj_iconst (pc := 49) dX1_message_49 (by decide)) ?_
  refine zst_ (gj_goto 64 (pc := 50) dX1_message_50 (by decide)) ?_
  exact fun h => w_X1_message_64 (-1) σ h hk
noncomputable def f_X1_message (x0 x1 x2 : Int) (σ : zM) : Option zO :=
  if x1 < 0 then
    f_X1_message_30 σ
  else
    if 8 ≤ x1 then
      f_X1_message_30 σ
    else
      zgd (zis σ 2 x0) <|
      zci (f_X1_look x0 σ) fun v1 σ2 =>
      if v1 = 0 then
        f_X1_message_30 σ2
      else
        (zgf σ2 101 x0).bind fun v3 =>
        (zgf σ2 200 v3).bind fun v4 =>
        (zga σ2 101 v4 x1).bind fun v5 =>
        if v5 = 2 then
          if x2 < 0 then
            f_X1_message_49 σ2
          else
            (zgf σ2 111 x0).bind fun v6 =>
            (zgf σ2 300 v6).bind fun v7 =>
            (zga σ2 101 v7 x1).bind fun v8 =>
            if x2 < v8 then
              (zgf σ2 111 x0).bind fun v9 =>
              (zgf σ2 301 v9).bind fun v10 =>
              (zga σ2 110 v10 x1).bind fun v11 =>
              (zga σ2 101 v11 x2).bind fun v12 =>
              f_X1_message_64 v12 σ2
            else
              f_X1_message_49 σ2
        else
          f_X1_message_30 σ2
theorem c_X1_message {g : zG} {lv : Nat} {x0 x1 x2 : Int} {σ : zM} {out : zO} (h : f_X1_message x0 x1 x2 σ = some out) : Cj g (lv + 2) MX1_message [zr x0, zi x1, zi x2] σ out := by
  refine cj_go (ls := [(0, zr x0), (1, zi x1), (2, zi x2)]) (by decide) (Nat.le_of_ble_eq_true rfl) rfl (zgen h (fun r hk => ?_))
  unfold f_X1_message
  refine zst_ (gj_iload_n 1 (pc := 0) dX1_message_0 rfl) ?_
  refine gb_if (gj_if_lt 30 (pc := 1) dX1_message_1 (by decide)) ?_ ?_
  · refine zst_ (gj_sub [] rfl) ?_
    exact fun h => w_X1_message_30 σ h hk
  · refine zst_ (gj_iload_n 1 (pc := 4) dX1_message_4 rfl) ?_
    refine zst_ (gj_bipush (pc := 5) dX1_message_5 ⟨rfl, by decide⟩) ?_
    refine gb_if (gj_icmp_ge 30 (pc := 7) dX1_message_7 (by decide)) ?_ ?_
    · refine zst_ (gj_sub [] rfl) ?_
      exact fun h => w_X1_message_30 σ h hk
    · refine zst_ (gj_aload_n 0 (pc := 10) dX1_message_10 rfl) ?_
      refine gb_gd (fun hb => ?_)
      refine gb_callI (pc := 11) (as := [zr x0]) (rest := []) (zCl.of (zLk_V (M := MX1_message) (ci := 1) (r := (RX1, TX1, 12)) plX1_look.1 rfl rfl (zisE hb).1 (zisE hb).2 dX1_message_11 q929 q931 qs1 q932) plX1_look (Nat.le_of_ble_eq_true rfl) (fun h => c_X1_look h)) (fun v1 σ2 => ?_)
      refine gb_if (gj_if_eq 30 (pc := 14) dX1_message_14 (by decide)) ?_ ?_
      · refine zst_ (gj_sub [] rfl) ?_
        exact fun h => w_X1_message_30 σ2 h hk
      · refine zst_ (gj_aload_n 0 (pc := 17) dX1_message_17 rfl) ?_
        refine gb_get (pc := 18) fl101 dX1_message_18 q842 (Or.inl rfl) (fun v3 => ?_)
        refine gb_getNe (pc := 21) fl200 dX1_message_21 q271 (Or.inl rfl) (fun v4 => ?_)
        refine zst_ (gj_iload_n 1 (pc := 24) dX1_message_24 rfl) ?_
        refine gb_iald (pc := 25) dX1_message_25 (fun v5 => ?_)
        refine zst_ (gj_iconst (pc := 26) dX1_message_26 (by decide)) ?_
        refine gb_if (gj_icmp_eq 32 (pc := 27) dX1_message_27 (by decide)) ?_ ?_
        · refine zst_ (gj_iload_n 2 (pc := 32) dX1_message_32 rfl) ?_
          refine gb_if (gj_if_lt 49 (pc := 33) dX1_message_33 (by decide)) ?_ ?_
          · refine zst_ (gj_sub [] rfl) ?_
            exact fun h => w_X1_message_49 σ2 h hk
          · refine zst_ (gj_iload_n 2 (pc := 36) dX1_message_36 rfl) ?_
            refine zst_ (gj_aload_n 0 (pc := 37) dX1_message_37 rfl) ?_
            refine gb_get (pc := 38) fl111 dX1_message_38 q852 (Or.inl rfl) (fun v6 => ?_)
            refine gb_getNe (pc := 41) fl300 dX1_message_41 q208 (Or.inl rfl) (fun v7 => ?_)
            refine zst_ (gj_iload_n 1 (pc := 44) dX1_message_44 rfl) ?_
            refine gb_iald (pc := 45) dX1_message_45 (fun v8 => ?_)
            refine gb_if (gj_icmp_lt 53 (pc := 46) dX1_message_46 (by decide)) ?_ ?_
            · refine zst_ (gj_aload_n 0 (pc := 53) dX1_message_53 rfl) ?_
              refine gb_get (pc := 54) fl111 dX1_message_54 q852 (Or.inl rfl) (fun v9 => ?_)
              refine gb_getNe (pc := 57) fl301 dX1_message_57 q211 (Or.inl rfl) (fun v10 => ?_)
              refine zst_ (gj_iload_n 1 (pc := 60) dX1_message_60 rfl) ?_
              refine gb_aald (pc := 61) (k := 110) ⟨by decide, by decide⟩ dX1_message_61 (fun v11 => ?_)
              refine zst_ (gj_iload_n 2 (pc := 62) dX1_message_62 rfl) ?_
              refine gb_iald (pc := 63) dX1_message_63 (fun v12 => ?_)
              refine zst_ (gj_sub [] rfl) ?_
              exact fun h => w_X1_message_64 v12 σ2 h hk
            · refine zst_ (gj_sub [] rfl) ?_
              exact fun h => w_X1_message_49 σ2 h hk
        · refine zst_ (gj_sub [] rfl) ?_
          exact fun h => w_X1_message_30 σ2 h hk
theorem q215 : (Jvm.Cond.fieldLinkNest "LassoFinder" (199 : Nat) "LassoFinder$Moment" "points" "[I" "LassoFinder") ∈ lw_tbl := lw_at lw_m1 115 rfl
theorem q280 : (Jvm.Cond.fieldLinkNest "LassoFinder" (196 : Nat) "LassoFinder$Model" "processes" "I" "LassoFinder") ∈ lw_tbl := lw_at lw_m1 180 rfl
theorem q944 : (Jvm.Cond.code ({ cls := "LassoFinder", name := "point", desc := "(I)I" } : Jvm.MethodName) prog_1_method_20_code (2 : Nat) (Option.some Jvm.ClassFile.FieldType.int)) ∈ lw_all := lw_g (lw_at lw_m4 124 rfl) rfl
abbrev cX1_point : ByteArray := prog_1_method_20_code
def yX1_point : MethodName := ⟨RX1, "point", "(I)I"⟩
theorem dX1_point_0 : decode cX1_point 0 = .ok (.iload_n 1, 1) := by decide +kernel
theorem dX1_point_1 : decode cX1_point 1 = .ok (.ifCond .lt 21, 3) := by decide +kernel
theorem dX1_point_4 : decode cX1_point 4 = .ok (.aload_n 0, 1) := by decide +kernel
theorem dX1_point_5 : decode cX1_point 5 = .ok (.invokevirtual 182, 3) := by decide +kernel
theorem dX1_point_8 : decode cX1_point 8 = .ok (.ifCond .eq 14, 3) := by decide +kernel
theorem dX1_point_11 : decode cX1_point 11 = .ok (.iload_n 1, 1) := by decide +kernel
theorem dX1_point_12 : decode cX1_point 12 = .ok (.aload_n 0, 1) := by decide +kernel
theorem dX1_point_13 : decode cX1_point 13 = .ok (.getfield 19, 3) := by decide +kernel
theorem dX1_point_16 : decode cX1_point 16 = .ok (.getfield 196, 3) := by decide +kernel
theorem dX1_point_19 : decode cX1_point 19 = .ok (.if_icmp .lt 7, 3) := by decide +kernel
theorem dX1_point_22 : decode cX1_point 22 = .ok (.iconst (-1), 1) := by decide +kernel
theorem dX1_point_23 : decode cX1_point 23 = .ok (.goto 12, 3) := by decide +kernel
theorem dX1_point_26 : decode cX1_point 26 = .ok (.aload_n 0, 1) := by decide +kernel
theorem dX1_point_27 : decode cX1_point 27 = .ok (.getfield 62, 3) := by decide +kernel
theorem dX1_point_30 : decode cX1_point 30 = .ok (.getfield 199, 3) := by decide +kernel
theorem dX1_point_33 : decode cX1_point 33 = .ok (.iload_n 1, 1) := by decide +kernel
theorem dX1_point_34 : decode cX1_point 34 = .ok (.iaload, 1) := by decide +kernel
theorem dX1_point_35 : decode cX1_point 35 = .ok (.ireturn, 1) := by decide +kernel
abbrev MX1_point : zT := (yX1_point, cX1_point, 2, (Option.some Jvm.ClassFile.FieldType.int), [])
theorem plX1_point : zplain MX1_point 1 ∧ (zcodeW MX1_point ∈ lw_all ∧ Cond.initialized MX1_point.1.cls ∈ lw_all) := ⟨⟨by decide +kernel, by decide +kernel⟩, q944, q101⟩
noncomputable def f_X1_point_35 (t0 : Int) (σ : zM) : Option zO :=
  some (0, zi t0, σ)
theorem w_X1_point_35 {g : zG} {lv : Nat} {out : zO} (t0 : Int) (σ : zM) {r : zO} (h : f_X1_point_35 t0 σ = some r) (hk : (fun o : zO => o = out) r) : Gj g MX1_point (lv + 2) 35 [] [zi t0] σ out := by
  revert h
  unfold f_X1_point_35
  intro h
  cases h
  have hk : (0, zi t0, σ) = out := hk
  subst hk
  exact gj_ret (pc := 35) (t := .int) dX1_point_35 rfl ⟨rfl, rfl⟩ (fun h => h)
noncomputable def f_X1_point_22 (σ : zM) : Option zO :=
  f_X1_point_35 (-1) σ
theorem w_X1_point_22 {g : zG} {lv : Nat} {out : zO} (σ : zM) {r : zO} (h : f_X1_point_22  σ = some r) (hk : (fun o : zO => o = out) r) : Gj g MX1_point (lv + 2) 22 [] [] σ out := by
  revert h
  unfold f_X1_point_22
  refine zst_ (gj_iconst (pc := 22) dX1_point_22 (by decide)) ?_
  refine zst_ (gj_goto 35 (pc := 23) dX1_point_23 (by decide)) ?_
  exact fun h => w_X1_point_35 (-1) σ h hk
noncomputable def f_X1_point (x0 x1 : Int) (σ : zM) : Option zO :=
  if x1 < 0 then
    f_X1_point_22 σ
  else
    zgd (zis σ 2 x0) <|
    zci (f_X1_look x0 σ) fun v1 σ2 =>
    if v1 = 0 then
      f_X1_point_22 σ2
    else
      (zgf σ2 101 x0).bind fun v3 =>
      (zgf σ2 204 v3).bind fun v4 =>
      if x1 < v4 then
        (zgf σ2 111 x0).bind fun v5 =>
        (zgf σ2 302 v5).bind fun v6 =>
        (zga σ2 101 v6 x1).bind fun v7 =>
        f_X1_point_35 v7 σ2
      else
        f_X1_point_22 σ2
theorem c_X1_point {g : zG} {lv : Nat} {x0 x1 : Int} {σ : zM} {out : zO} (h : f_X1_point x0 x1 σ = some out) : Cj g (lv + 2) MX1_point [zr x0, zi x1] σ out := by
  refine cj_go (ls := [(0, zr x0), (1, zi x1)]) (by decide) (Nat.le_of_ble_eq_true rfl) rfl (zgen h (fun r hk => ?_))
  unfold f_X1_point
  refine zst_ (gj_iload_n 1 (pc := 0) dX1_point_0 rfl) ?_
  refine gb_if (gj_if_lt 22 (pc := 1) dX1_point_1 (by decide)) ?_ ?_
  · refine zst_ (gj_sub [] rfl) ?_
    exact fun h => w_X1_point_22 σ h hk
  · refine zst_ (gj_aload_n 0 (pc := 4) dX1_point_4 rfl) ?_
    refine gb_gd (fun hb => ?_)
    refine gb_callI (pc := 5) (as := [zr x0]) (rest := []) (zCl.of (zLk_V (M := MX1_point) (ci := 1) (r := (RX1, TX1, 12)) plX1_look.1 rfl rfl (zisE hb).1 (zisE hb).2 dX1_point_5 q929 q931 qs1 q932) plX1_look (Nat.le_of_ble_eq_true rfl) (fun h => c_X1_look h)) (fun v1 σ2 => ?_)
    refine gb_if (gj_if_eq 22 (pc := 8) dX1_point_8 (by decide)) ?_ ?_
    · refine zst_ (gj_sub [] rfl) ?_
      exact fun h => w_X1_point_22 σ2 h hk
    · refine zst_ (gj_iload_n 1 (pc := 11) dX1_point_11 rfl) ?_
      refine zst_ (gj_aload_n 0 (pc := 12) dX1_point_12 rfl) ?_
      refine gb_get (pc := 13) fl101 dX1_point_13 q842 (Or.inl rfl) (fun v3 => ?_)
      refine gb_getNe (pc := 16) fl204 dX1_point_16 q280 (Or.inl rfl) (fun v4 => ?_)
      refine gb_if (gj_icmp_lt 26 (pc := 19) dX1_point_19 (by decide)) ?_ ?_
      · refine zst_ (gj_aload_n 0 (pc := 26) dX1_point_26 rfl) ?_
        refine gb_get (pc := 27) fl111 dX1_point_27 q852 (Or.inl rfl) (fun v5 => ?_)
        refine gb_getNe (pc := 30) fl302 dX1_point_30 q215 (Or.inl rfl) (fun v6 => ?_)
        refine zst_ (gj_iload_n 1 (pc := 33) dX1_point_33 rfl) ?_
        refine gb_iald (pc := 34) dX1_point_34 (fun v7 => ?_)
        refine zst_ (gj_sub [] rfl) ?_
        exact fun h => w_X1_point_35 v7 σ2 h hk
      · refine zst_ (gj_sub [] rfl) ?_
        exact fun h => w_X1_point_22 σ2 h hk
theorem q218 : (Jvm.Cond.fieldLinkNest "LassoFinder" (202 : Nat) "LassoFinder$Moment" "held" "I" "LassoFinder") ∈ lw_tbl := lw_at lw_m1 118 rfl
theorem q948 : (Jvm.Cond.code ({ cls := "LassoFinder", name := "holder", desc := "()I" } : Jvm.MethodName) prog_1_method_21_code (1 : Nat) (Option.some Jvm.ClassFile.FieldType.int)) ∈ lw_all := lw_g (lw_at lw_m4 128 rfl) rfl
abbrev cX1_holder : ByteArray := prog_1_method_21_code
def yX1_holder : MethodName := ⟨RX1, "holder", "()I"⟩
theorem dX1_holder_0 : decode cX1_holder 0 = .ok (.aload_n 0, 1) := by decide +kernel
theorem dX1_holder_1 : decode cX1_holder 1 = .ok (.invokevirtual 182, 3) := by decide +kernel
theorem dX1_holder_4 : decode cX1_holder 4 = .ok (.ifCond .eq 15, 3) := by decide +kernel
theorem dX1_holder_7 : decode cX1_holder 7 = .ok (.aload_n 0, 1) := by decide +kernel
theorem dX1_holder_8 : decode cX1_holder 8 = .ok (.getfield 62, 3) := by decide +kernel
theorem dX1_holder_11 : decode cX1_holder 11 = .ok (.getfield 202, 3) := by decide +kernel
theorem dX1_holder_14 : decode cX1_holder 14 = .ok (.iconst 1, 1) := by decide +kernel
theorem dX1_holder_15 : decode cX1_holder 15 = .ok (.isub, 1) := by decide +kernel
theorem dX1_holder_16 : decode cX1_holder 16 = .ok (.goto 4, 3) := by decide +kernel
theorem dX1_holder_19 : decode cX1_holder 19 = .ok (.iconst (-1), 1) := by decide +kernel
theorem dX1_holder_20 : decode cX1_holder 20 = .ok (.ireturn, 1) := by decide +kernel
abbrev MX1_holder : zT := (yX1_holder, cX1_holder, 1, (Option.some Jvm.ClassFile.FieldType.int), [])
theorem plX1_holder : zplain MX1_holder 0 ∧ (zcodeW MX1_holder ∈ lw_all ∧ Cond.initialized MX1_holder.1.cls ∈ lw_all) := ⟨⟨by decide +kernel, by decide +kernel⟩, q948, q101⟩
noncomputable def f_X1_holder_20 (t0 : Int) (σ : zM) : Option zO :=
  some (0, zi t0, σ)
theorem w_X1_holder_20 {g : zG} {lv : Nat} {out : zO} (t0 : Int) (σ : zM) {r : zO} (h : f_X1_holder_20 t0 σ = some r) (hk : (fun o : zO => o = out) r) : Gj g MX1_holder (lv + 2) 20 [] [zi t0] σ out := by
  revert h
  unfold f_X1_holder_20
  intro h
  cases h
  have hk : (0, zi t0, σ) = out := hk
  subst hk
  exact gj_ret (pc := 20) (t := .int) dX1_holder_20 rfl ⟨rfl, rfl⟩ (fun h => h)
noncomputable def f_X1_holder (x0 : Int) (σ : zM) : Option zO :=
  zgd (zis σ 2 x0) <|
  zci (f_X1_look x0 σ) fun v1 σ2 =>
  if v1 = 0 then
    f_X1_holder_20 (-1) σ2
  else
    (zgf σ2 111 x0).bind fun v3 =>
    (zgf σ2 303 v3).bind fun v4 =>
    f_X1_holder_20 (zsub v4 1) σ2
theorem c_X1_holder {g : zG} {lv : Nat} {x0 : Int} {σ : zM} {out : zO} (h : f_X1_holder x0 σ = some out) : Cj g (lv + 2) MX1_holder [zr x0] σ out := by
  refine cj_go (ls := [(0, zr x0)]) (by decide) (Nat.le_of_ble_eq_true rfl) rfl (zgen h (fun r hk => ?_))
  unfold f_X1_holder
  refine zst_ (gj_aload_n 0 (pc := 0) dX1_holder_0 rfl) ?_
  refine gb_gd (fun hb => ?_)
  refine gb_callI (pc := 1) (as := [zr x0]) (rest := []) (zCl.of (zLk_V (M := MX1_holder) (ci := 1) (r := (RX1, TX1, 12)) plX1_look.1 rfl rfl (zisE hb).1 (zisE hb).2 dX1_holder_1 q929 q931 qs1 q932) plX1_look (Nat.le_of_ble_eq_true rfl) (fun h => c_X1_look h)) (fun v1 σ2 => ?_)
  refine gb_if (gj_if_eq 19 (pc := 4) dX1_holder_4 (by decide)) ?_ ?_
  · refine zst_ (gj_iconst (pc := 19) dX1_holder_19 (by decide)) ?_
    refine zst_ (gj_sub [] rfl) ?_
    exact fun h => w_X1_holder_20 (-1) σ2 h hk
  · refine zst_ (gj_aload_n 0 (pc := 7) dX1_holder_7 rfl) ?_
    refine gb_get (pc := 8) fl111 dX1_holder_8 q852 (Or.inl rfl) (fun v3 => ?_)
    refine gb_getNe (pc := 11) fl303 dX1_holder_11 q218 (Or.inl rfl) (fun v4 => ?_)
    refine zst_ (gj_iconst (pc := 14) dX1_holder_14 (by decide)) ?_
    refine zst_ (gj_isub (pc := 15) dX1_holder_15) ?_
    refine zst_ (gj_goto 20 (pc := 16) dX1_holder_16 (by decide)) ?_
    refine zst_ (gj_sub [] rfl) ?_
    exact fun h => w_X1_holder_20 (zsub v4 1) σ2 h hk
theorem q283 : (Jvm.Cond.fieldLinkNest "LassoFinder" (238 : Nat) "LassoFinder$Model" "basics" "I" "LassoFinder") ∈ lw_tbl := lw_at lw_m1 183 rfl
theorem q317 : (Jvm.Cond.fieldLinkNest "LassoFinder" (235 : Nat) "LassoFinder$Model" "made" "I" "LassoFinder") ∈ lw_tbl := lw_at lw_m1 217 rfl
theorem q952 : (Jvm.Cond.code ({ cls := "LassoFinder", name := "count", desc := "(I)I" } : Jvm.MethodName) prog_1_method_24_code (2 : Nat) (Option.some Jvm.ClassFile.FieldType.int)) ∈ lw_all := lw_g (lw_at lw_m4 132 rfl) rfl
abbrev cX1_count : ByteArray := prog_1_method_24_code
def yX1_count : MethodName := ⟨RX1, "count", "(I)I"⟩
theorem dX1_count_0 : decode cX1_count 0 = .ok (.iload_n 1, 1) := by decide +kernel
theorem dX1_count_1 : decode cX1_count 1 = .ok (.tableswitch 107 0 3 #[31, 50, 69, 88], 31) := by decide +kernel
theorem dX1_count_32 : decode cX1_count 32 = .ok (.aload_n 0, 1) := by decide +kernel
theorem dX1_count_33 : decode cX1_count 33 = .ok (.getfield 97, 3) := by decide +kernel
theorem dX1_count_36 : decode cX1_count 36 = .ok (.ifCond .eq 13, 3) := by decide +kernel
theorem dX1_count_39 : decode cX1_count 39 = .ok (.aload_n 0, 1) := by decide +kernel
theorem dX1_count_40 : decode cX1_count 40 = .ok (.getfield 19, 3) := by decide +kernel
theorem dX1_count_43 : decode cX1_count 43 = .ok (.getfield 112, 3) := by decide +kernel
theorem dX1_count_46 : decode cX1_count 46 = .ok (.goto 4, 3) := by decide +kernel
theorem dX1_count_49 : decode cX1_count 49 = .ok (.iconst 0, 1) := by decide +kernel
theorem dX1_count_50 : decode cX1_count 50 = .ok (.ireturn, 1) := by decide +kernel
theorem dX1_count_51 : decode cX1_count 51 = .ok (.aload_n 0, 1) := by decide +kernel
theorem dX1_count_52 : decode cX1_count 52 = .ok (.getfield 97, 3) := by decide +kernel
theorem dX1_count_55 : decode cX1_count 55 = .ok (.ifCond .eq 13, 3) := by decide +kernel
theorem dX1_count_58 : decode cX1_count 58 = .ok (.aload_n 0, 1) := by decide +kernel
theorem dX1_count_59 : decode cX1_count 59 = .ok (.getfield 19, 3) := by decide +kernel
theorem dX1_count_62 : decode cX1_count 62 = .ok (.getfield 235, 3) := by decide +kernel
theorem dX1_count_65 : decode cX1_count 65 = .ok (.goto 4, 3) := by decide +kernel
theorem dX1_count_68 : decode cX1_count 68 = .ok (.iconst 0, 1) := by decide +kernel
theorem dX1_count_69 : decode cX1_count 69 = .ok (.ireturn, 1) := by decide +kernel
theorem dX1_count_70 : decode cX1_count 70 = .ok (.aload_n 0, 1) := by decide +kernel
theorem dX1_count_71 : decode cX1_count 71 = .ok (.getfield 97, 3) := by decide +kernel
theorem dX1_count_74 : decode cX1_count 74 = .ok (.ifCond .eq 13, 3) := by decide +kernel
theorem dX1_count_77 : decode cX1_count 77 = .ok (.aload_n 0, 1) := by decide +kernel
theorem dX1_count_78 : decode cX1_count 78 = .ok (.getfield 19, 3) := by decide +kernel
theorem dX1_count_81 : decode cX1_count 81 = .ok (.getfield 238, 3) := by decide +kernel
theorem dX1_count_84 : decode cX1_count 84 = .ok (.goto 4, 3) := by decide +kernel
theorem dX1_count_87 : decode cX1_count 87 = .ok (.iconst 0, 1) := by decide +kernel
theorem dX1_count_88 : decode cX1_count 88 = .ok (.ireturn, 1) := by decide +kernel
theorem dX1_count_89 : decode cX1_count 89 = .ok (.aload_n 0, 1) := by decide +kernel
theorem dX1_count_90 : decode cX1_count 90 = .ok (.getfield 97, 3) := by decide +kernel
theorem dX1_count_93 : decode cX1_count 93 = .ok (.ifCond .eq 13, 3) := by decide +kernel
theorem dX1_count_96 : decode cX1_count 96 = .ok (.aload_n 0, 1) := by decide +kernel
theorem dX1_count_97 : decode cX1_count 97 = .ok (.getfield 19, 3) := by decide +kernel
theorem dX1_count_100 : decode cX1_count 100 = .ok (.getfield 196, 3) := by decide +kernel
theorem dX1_count_103 : decode cX1_count 103 = .ok (.goto 4, 3) := by decide +kernel
theorem dX1_count_106 : decode cX1_count 106 = .ok (.iconst 0, 1) := by decide +kernel
theorem dX1_count_107 : decode cX1_count 107 = .ok (.ireturn, 1) := by decide +kernel
theorem dX1_count_108 : decode cX1_count 108 = .ok (.iconst (-1), 1) := by decide +kernel
theorem dX1_count_109 : decode cX1_count 109 = .ok (.ireturn, 1) := by decide +kernel
abbrev MX1_count : zT := (yX1_count, cX1_count, 2, (Option.some Jvm.ClassFile.FieldType.int), [])
theorem plX1_count : zplain MX1_count 1 ∧ (zcodeW MX1_count ∈ lw_all ∧ Cond.initialized MX1_count.1.cls ∈ lw_all) := ⟨⟨by decide +kernel, by decide +kernel⟩, q952, q101⟩
noncomputable def f_X1_count_50 (t0 : Int) (σ : zM) : Option zO :=
  some (0, zi t0, σ)
theorem w_X1_count_50 {g : zG} {lv : Nat} {out : zO} (t0 : Int) (σ : zM) {r : zO} (h : f_X1_count_50 t0 σ = some r) (hk : (fun o : zO => o = out) r) : Gj g MX1_count (lv) 50 [] [zi t0] σ out := by
  revert h
  unfold f_X1_count_50
  intro h
  cases h
  have hk : (0, zi t0, σ) = out := hk
  subst hk
  exact gj_ret (pc := 50) (t := .int) dX1_count_50 rfl ⟨rfl, rfl⟩ (fun h => h)
noncomputable def f_X1_count_69 (t0 : Int) (σ : zM) : Option zO :=
  some (0, zi t0, σ)
theorem w_X1_count_69 {g : zG} {lv : Nat} {out : zO} (t0 : Int) (σ : zM) {r : zO} (h : f_X1_count_69 t0 σ = some r) (hk : (fun o : zO => o = out) r) : Gj g MX1_count (lv) 69 [] [zi t0] σ out := by
  revert h
  unfold f_X1_count_69
  intro h
  cases h
  have hk : (0, zi t0, σ) = out := hk
  subst hk
  exact gj_ret (pc := 69) (t := .int) dX1_count_69 rfl ⟨rfl, rfl⟩ (fun h => h)
noncomputable def f_X1_count_88 (t0 : Int) (σ : zM) : Option zO :=
  some (0, zi t0, σ)
theorem w_X1_count_88 {g : zG} {lv : Nat} {out : zO} (t0 : Int) (σ : zM) {r : zO} (h : f_X1_count_88 t0 σ = some r) (hk : (fun o : zO => o = out) r) : Gj g MX1_count (lv) 88 [] [zi t0] σ out := by
  revert h
  unfold f_X1_count_88
  intro h
  cases h
  have hk : (0, zi t0, σ) = out := hk
  subst hk
  exact gj_ret (pc := 88) (t := .int) dX1_count_88 rfl ⟨rfl, rfl⟩ (fun h => h)
noncomputable def f_X1_count_107 (t0 : Int) (σ : zM) : Option zO :=
  some (0, zi t0, σ)
theorem w_X1_count_107 {g : zG} {lv : Nat} {out : zO} (t0 : Int) (σ : zM) {r : zO} (h : f_X1_count_107 t0 σ = some r) (hk : (fun o : zO => o = out) r) : Gj g MX1_count (lv) 107 [] [zi t0] σ out := by
  revert h
  unfold f_X1_count_107
  intro h
  cases h
  have hk : (0, zi t0, σ) = out := hk
  subst hk
  exact gj_ret (pc := 107) (t := .int) dX1_count_107 rfl ⟨rfl, rfl⟩ (fun h => h)
noncomputable def f_X1_count (x0 x1 : Int) (σ : zM) : Option zO :=
  if x1 = 0 then
    (zgf σ 106 x0).bind fun v1 =>
    if v1 = 0 then
      f_X1_count_50 0 σ
    else
      (zgf σ 101 x0).bind fun v2 =>
      (zgf σ 220 v2).bind fun v3 =>
      f_X1_count_50 v3 σ
  else if x1 = 1 then
    (zgf σ 106 x0).bind fun v4 =>
    if v4 = 0 then
      f_X1_count_69 0 σ
    else
      (zgf σ 101 x0).bind fun v5 =>
      (zgf σ 221 v5).bind fun v6 =>
      f_X1_count_69 v6 σ
  else if x1 = 2 then
    (zgf σ 106 x0).bind fun v7 =>
    if v7 = 0 then
      f_X1_count_88 0 σ
    else
      (zgf σ 101 x0).bind fun v8 =>
      (zgf σ 205 v8).bind fun v9 =>
      f_X1_count_88 v9 σ
  else if x1 = 3 then
    (zgf σ 106 x0).bind fun v10 =>
    if v10 = 0 then
      f_X1_count_107 0 σ
    else
      (zgf σ 101 x0).bind fun v11 =>
      (zgf σ 204 v11).bind fun v12 =>
      f_X1_count_107 v12 σ
  else 
    some (0, zi (-1), σ)
theorem c_X1_count {g : zG} {lv : Nat} {x0 x1 : Int} {σ : zM} {out : zO} (h : f_X1_count x0 x1 σ = some out) : Cj g (lv) MX1_count [zr x0, zi x1] σ out := by
  refine cj_go (ls := [(0, zr x0), (1, zi x1)]) (by decide) (Nat.le_of_ble_eq_true rfl) rfl (zgen h (fun r hk => ?_))
  unfold f_X1_count
  refine zst_ (gj_iload_n 1 (pc := 0) dX1_count_0 rfl) ?_
  refine gb_ite (fun hc0 => ?_) (fun hc0 => ?_)
  · refine zst_ (fun kk => gj_table (pc := 1) dX1_count_1 108 (by decide) (fun hx => absurd hx (by omega)) (fun _ _ => ⟨31, 32, by rw [hc0]; rfl, by decide, kk⟩)) ?_
    refine zst_ (gj_aload_n 0 (pc := 32) dX1_count_32 rfl) ?_
    refine gb_get (pc := 33) fl106 dX1_count_33 q847 (Or.inl rfl) (fun v1 => ?_)
    refine gb_if (gj_if_eq 49 (pc := 36) dX1_count_36 (by decide)) ?_ ?_
    · refine zst_ (gj_iconst (pc := 49) dX1_count_49 (by decide)) ?_
      refine zst_ (gj_sub [] rfl) ?_
      exact fun h => w_X1_count_50 0 σ h hk
    · refine zst_ (gj_aload_n 0 (pc := 39) dX1_count_39 rfl) ?_
      refine gb_get (pc := 40) fl101 dX1_count_40 q842 (Or.inl rfl) (fun v2 => ?_)
      refine gb_getNe (pc := 43) fl220 dX1_count_43 q314 (Or.inl rfl) (fun v3 => ?_)
      refine zst_ (gj_goto 50 (pc := 46) dX1_count_46 (by decide)) ?_
      refine zst_ (gj_sub [] rfl) ?_
      exact fun h => w_X1_count_50 v3 σ h hk
  · refine gb_ite (fun hc1 => ?_) (fun hc1 => ?_)
    · refine zst_ (fun kk => gj_table (pc := 1) dX1_count_1 108 (by decide) (fun hx => absurd hx (by omega)) (fun _ _ => ⟨50, 51, by rw [hc1]; rfl, by decide, kk⟩)) ?_
      refine zst_ (gj_aload_n 0 (pc := 51) dX1_count_51 rfl) ?_
      refine gb_get (pc := 52) fl106 dX1_count_52 q847 (Or.inl rfl) (fun v4 => ?_)
      refine gb_if (gj_if_eq 68 (pc := 55) dX1_count_55 (by decide)) ?_ ?_
      · refine zst_ (gj_iconst (pc := 68) dX1_count_68 (by decide)) ?_
        refine zst_ (gj_sub [] rfl) ?_
        exact fun h => w_X1_count_69 0 σ h hk
      · refine zst_ (gj_aload_n 0 (pc := 58) dX1_count_58 rfl) ?_
        refine gb_get (pc := 59) fl101 dX1_count_59 q842 (Or.inl rfl) (fun v5 => ?_)
        refine gb_getNe (pc := 62) fl221 dX1_count_62 q317 (Or.inl rfl) (fun v6 => ?_)
        refine zst_ (gj_goto 69 (pc := 65) dX1_count_65 (by decide)) ?_
        refine zst_ (gj_sub [] rfl) ?_
        exact fun h => w_X1_count_69 v6 σ h hk
    · refine gb_ite (fun hc2 => ?_) (fun hc2 => ?_)
      · refine zst_ (fun kk => gj_table (pc := 1) dX1_count_1 108 (by decide) (fun hx => absurd hx (by omega)) (fun _ _ => ⟨69, 70, by rw [hc2]; rfl, by decide, kk⟩)) ?_
        refine zst_ (gj_aload_n 0 (pc := 70) dX1_count_70 rfl) ?_
        refine gb_get (pc := 71) fl106 dX1_count_71 q847 (Or.inl rfl) (fun v7 => ?_)
        refine gb_if (gj_if_eq 87 (pc := 74) dX1_count_74 (by decide)) ?_ ?_
        · refine zst_ (gj_iconst (pc := 87) dX1_count_87 (by decide)) ?_
          refine zst_ (gj_sub [] rfl) ?_
          exact fun h => w_X1_count_88 0 σ h hk
        · refine zst_ (gj_aload_n 0 (pc := 77) dX1_count_77 rfl) ?_
          refine gb_get (pc := 78) fl101 dX1_count_78 q842 (Or.inl rfl) (fun v8 => ?_)
          refine gb_getNe (pc := 81) fl205 dX1_count_81 q283 (Or.inl rfl) (fun v9 => ?_)
          refine zst_ (gj_goto 88 (pc := 84) dX1_count_84 (by decide)) ?_
          refine zst_ (gj_sub [] rfl) ?_
          exact fun h => w_X1_count_88 v9 σ h hk
      · refine gb_ite (fun hc3 => ?_) (fun hc3 => ?_)
        · refine zst_ (fun kk => gj_table (pc := 1) dX1_count_1 108 (by decide) (fun hx => absurd hx (by omega)) (fun _ _ => ⟨88, 89, by rw [hc3]; rfl, by decide, kk⟩)) ?_
          refine zst_ (gj_aload_n 0 (pc := 89) dX1_count_89 rfl) ?_
          refine gb_get (pc := 90) fl106 dX1_count_90 q847 (Or.inl rfl) (fun v10 => ?_)
          refine gb_if (gj_if_eq 106 (pc := 93) dX1_count_93 (by decide)) ?_ ?_
          · refine zst_ (gj_iconst (pc := 106) dX1_count_106 (by decide)) ?_
            refine zst_ (gj_sub [] rfl) ?_
            exact fun h => w_X1_count_107 0 σ h hk
          · refine zst_ (gj_aload_n 0 (pc := 96) dX1_count_96 rfl) ?_
            refine gb_get (pc := 97) fl101 dX1_count_97 q842 (Or.inl rfl) (fun v11 => ?_)
            refine gb_getNe (pc := 100) fl204 dX1_count_100 q280 (Or.inl rfl) (fun v12 => ?_)
            refine zst_ (gj_goto 107 (pc := 103) dX1_count_103 (by decide)) ?_
            refine zst_ (gj_sub [] rfl) ?_
            exact fun h => w_X1_count_107 v12 σ h hk
        · refine zst_ (fun kk => gj_table (pc := 1) dX1_count_1 108 (by decide) (fun _ => kk) (fun h1 h2 => absurd h1 (by omega))) ?_
          refine zst_ (gj_iconst (pc := 108) dX1_count_108 (by decide)) ?_
          intro h
          cases h
          have hk : (0, zi (-1), σ) = out := hk
          subst hk
          exact gj_ret (pc := 109) (t := .int) dX1_count_109 rfl ⟨rfl, rfl⟩ (fun h => h)

set_option maxRecDepth 100000
theorem q102 : (Jvm.Cond.initialized "java/lang/AbstractStringBuilder") ∈ lw_all := lw_g (lw_at lw_m1 2 rfl) rfl
theorem q172 : (Jvm.Cond.fieldLink "java/lang/AbstractStringBuilder" (15 : Nat) "java/lang/AbstractStringBuilder" "value" "[B") ∈ lw_all := lw_g (lw_at lw_m1 72 rfl) rfl
theorem q598 : (Jvm.Cond.code ({ cls := "java/lang/AbstractStringBuilder", name := "getValue", desc := "()[B" } : Jvm.MethodName) prog_24_method_64_code (1 : Nat) (Option.some (Jvm.ClassFile.FieldType.array Jvm.ClassFile.FieldType.byte))) ∈ lw_all := lw_g (lw_at lw_m3 18 rfl) rfl
theorem fl2000 : zfl 2000 2 "java/lang/AbstractStringBuilder" "value" "[B" false := ⟨rfl, rfl, rfl⟩
theorem fr2000 {g : zG} {v : Int} : zok g (2, v) → zokt g (zft 2000) v := fun h => h
abbrev cJ0_getValue : ByteArray := prog_24_method_64_code
def yJ0_getValue : MethodName := ⟨RJ0, "getValue", "()[B"⟩
theorem dJ0_getValue_0 : decode cJ0_getValue 0 = .ok (.aload_n 0, 1) := by decide +kernel
theorem dJ0_getValue_1 : decode cJ0_getValue 1 = .ok (.getfield 15, 3) := by decide +kernel
theorem dJ0_getValue_4 : decode cJ0_getValue 4 = .ok (.areturn, 1) := by decide +kernel
abbrev MJ0_getValue : zT := (yJ0_getValue, cJ0_getValue, 1, (Option.some (Jvm.ClassFile.FieldType.array Jvm.ClassFile.FieldType.byte)), [])
theorem plJ0_getValue : zplain MJ0_getValue 0 ∧ (zcodeW MJ0_getValue ∈ lw_all ∧ Cond.initialized MJ0_getValue.1.cls ∈ lw_all) := ⟨⟨by decide +kernel, by decide +kernel⟩, q598, q102⟩
noncomputable def f_J0_getValue (x0 : Int) (σ : zM) : Option zO :=
  (zgf σ 2000 x0).bind fun v1 =>
  some (0, zr v1, σ)
theorem c_J0_getValue {g : zG} {lv : Nat} {x0 : Int} {σ : zM} {out : zO} (h : f_J0_getValue x0 σ = some out) : Cj g (lv) MJ0_getValue [zr x0] σ out := by
  refine cj_go (ls := [(0, zr x0)]) (by decide) (Nat.le_of_ble_eq_true rfl) rfl (zgen h (fun r hk => ?_))
  unfold f_J0_getValue
  refine zst_ (gj_aload_n 0 (pc := 0) dJ0_getValue_0 rfl) ?_
  refine gb_get (pc := 1) fl2000 dJ0_getValue_1 q172 (Or.inl rfl) (fun v1 => ?_)
  intro h
  cases h
  have hk : (0, zr v1, σ) = out := hk
  subst hk
  exact gj_aret (pc := 4) dJ0_getValue_4 rfl (Or.inr ⟨_, rfl⟩)
theorem q176 : (Jvm.Cond.fieldLink "java/lang/AbstractStringBuilder" (79 : Nat) "java/lang/AbstractStringBuilder" "count" "I") ∈ lw_all := lw_g (lw_at lw_m1 76 rfl) rfl
theorem q606 : (Jvm.Cond.code ({ cls := "java/lang/AbstractStringBuilder", name := "length", desc := "()I" } : Jvm.MethodName) prog_24_method_6_code (1 : Nat) (Option.some Jvm.ClassFile.FieldType.int)) ∈ lw_all := lw_g (lw_at lw_m3 26 rfl) rfl
theorem fl2003 : zfl 2003 0 "java/lang/AbstractStringBuilder" "count" "I" false := ⟨rfl, rfl, rfl⟩
theorem fr2003 {g : zG} {v : Int} : zok g (0, v) → zokt g (zft 2003) v := fun h => h
abbrev cJ0_length : ByteArray := prog_24_method_6_code
def yJ0_length : MethodName := ⟨RJ0, "length", "()I"⟩
theorem dJ0_length_0 : decode cJ0_length 0 = .ok (.aload_n 0, 1) := by decide +kernel
theorem dJ0_length_1 : decode cJ0_length 1 = .ok (.getfield 79, 3) := by decide +kernel
theorem dJ0_length_4 : decode cJ0_length 4 = .ok (.ireturn, 1) := by decide +kernel
abbrev MJ0_length : zT := (yJ0_length, cJ0_length, 1, (Option.some Jvm.ClassFile.FieldType.int), [])
theorem plJ0_length : zplain MJ0_length 0 ∧ (zcodeW MJ0_length ∈ lw_all ∧ Cond.initialized MJ0_length.1.cls ∈ lw_all) := ⟨⟨by decide +kernel, by decide +kernel⟩, q606, q102⟩
noncomputable def f_J0_length (x0 : Int) (σ : zM) : Option zO :=
  (zgf σ 2003 x0).bind fun v1 =>
  some (0, zi v1, σ)
theorem c_J0_length {g : zG} {lv : Nat} {x0 : Int} {σ : zM} {out : zO} (h : f_J0_length x0 σ = some out) : Cj g (lv) MJ0_length [zr x0] σ out := by
  refine cj_go (ls := [(0, zr x0)]) (by decide) (Nat.le_of_ble_eq_true rfl) rfl (zgen h (fun r hk => ?_))
  unfold f_J0_length
  refine zst_ (gj_aload_n 0 (pc := 0) dJ0_length_0 rfl) ?_
  refine gb_get (pc := 1) fl2003 dJ0_length_1 q176 (Or.inl rfl) (fun v1 => ?_)
  intro h
  cases h
  have hk : (0, zi v1, σ) = out := hk
  subst hk
  exact gj_ret (pc := 4) (t := .int) dJ0_length_4 rfl ⟨rfl, rfl⟩ (fun h => h)
theorem q103 : (Jvm.Cond.initialized "java/lang/StringBuilder") ∈ lw_all := lw_g (lw_at lw_m1 3 rfl) rfl
theorem q185 : (Jvm.Cond.superclass "java/lang/StringBuilder" "java/lang/AbstractStringBuilder") ∈ lw_all := lw_g (lw_at lw_m1 85 rfl) rfl
theorem q600 : (Jvm.Cond.instanceMethod ({ cls := "java/lang/AbstractStringBuilder", name := "length", desc := "()I" } : Jvm.MethodName)) ∈ lw_all := lw_g (lw_at lw_m3 20 rfl) rfl
theorem q601 : (Jvm.Cond.sameMethod "java/lang/AbstractStringBuilder" "java/lang/AbstractStringBuilder" "length" "()I") ∈ lw_all := lw_g (lw_at lw_m3 21 rfl) rfl
theorem q604 : (Jvm.Cond.code ({ cls := "java/lang/StringBuilder", name := "length", desc := "()I" } : Jvm.MethodName) prog_38_method_93_code (1 : Nat) (Option.some Jvm.ClassFile.FieldType.int)) ∈ lw_all := lw_g (lw_at lw_m3 24 rfl) rfl
theorem q605 : (Jvm.Cond.methodLink "java/lang/StringBuilder" (343 : Nat) ({ cls := "java/lang/AbstractStringBuilder", name := "length", desc := "()I" } : Jvm.MethodName)) ∈ lw_all := lw_g (lw_at lw_m3 25 rfl) rfl
abbrev cJ1_length : ByteArray := prog_38_method_93_code
def yJ1_length : MethodName := ⟨RJ1, "length", "()I"⟩
theorem dJ1_length_0 : decode cJ1_length 0 = .ok (.aload_n 0, 1) := by decide +kernel
theorem dJ1_length_1 : decode cJ1_length 1 = .ok (.invokespecial 343, 3) := by decide +kernel
theorem dJ1_length_4 : decode cJ1_length 4 = .ok (.ireturn, 1) := by decide +kernel
abbrev MJ1_length : zT := (yJ1_length, cJ1_length, 1, (Option.some Jvm.ClassFile.FieldType.int), [])
theorem plJ1_length : zplain MJ1_length 0 ∧ (zcodeW MJ1_length ∈ lw_all ∧ Cond.initialized MJ1_length.1.cls ∈ lw_all) := ⟨⟨by decide +kernel, by decide +kernel⟩, q604, q103⟩
noncomputable def f_J1_length (x0 : Int) (σ : zM) : Option zO :=
  zgd (zis σ 21 x0) <|
  zci (f_J0_length x0 σ) fun v1 σ2 =>
  some (0, zi v1, σ2)
theorem c_J1_length {g : zG} {lv : Nat} {x0 : Int} {σ : zM} {out : zO} (h : f_J1_length x0 σ = some out) : Cj g (lv + 1) MJ1_length [zr x0] σ out := by
  refine cj_go (ls := [(0, zr x0)]) (by decide) (Nat.le_of_ble_eq_true rfl) rfl (zgen h (fun r hk => ?_))
  unfold f_J1_length
  refine zst_ (gj_aload_n 0 (pc := 0) dJ1_length_0 rfl) ?_
  refine gb_gd (fun hb => ?_)
  refine gb_callI (pc := 1) (as := [zr x0]) (rest := []) (zCl.of (zLk_Sp (M := MJ1_length) (ci := 20) (r := (RJ1, TJ1, 4)) plJ0_length.1 rfl (by decide) rfl (zisE hb).1 (zisE hb).2 dJ1_length_1 q605 q601 q185 q600 q606) plJ0_length (Nat.le_of_ble_eq_true rfl) (fun h => c_J0_length h)) (fun v1 σ2 => ?_)
  intro h
  cases h
  have hk : (0, zi v1, σ2) = out := hk
  subst hk
  exact gj_ret (pc := 4) (t := .int) dJ1_length_4 rfl ⟨rfl, rfl⟩ (fun h => h)
theorem q163 : (Jvm.Cond.fieldLink "java/lang/AbstractStringBuilder" (18 : Nat) "java/lang/String" "COMPACT_STRINGS" "Z") ∈ lw_all := lw_g (lw_at lw_m1 63 rfl) rfl
theorem q173 : (Jvm.Cond.fieldLink "java/lang/AbstractStringBuilder" (22 : Nat) "java/lang/AbstractStringBuilder" "coder" "B") ∈ lw_all := lw_g (lw_at lw_m1 73 rfl) rfl
theorem q486 : (Jvm.Cond.code ({ cls := "java/lang/AbstractStringBuilder", name := "isLatin1", desc := "()Z" } : Jvm.MethodName) prog_24_method_68_code (1 : Nat) (Option.some Jvm.ClassFile.FieldType.boolean)) ∈ lw_all := lw_g (lw_at lw_m2 146 rfl) rfl
theorem fl2001 : zfl 2001 0 "java/lang/AbstractStringBuilder" "coder" "B" false := ⟨rfl, rfl, rfl⟩
theorem fr2001 {g : zG} {v : Int} (h : zby v = true) : zok g (0, v) → zokt g (zft 2001) v := fun _ => zbyE h
abbrev cJ0_isLatin1 : ByteArray := prog_24_method_68_code
def yJ0_isLatin1 : MethodName := ⟨RJ0, "isLatin1", "()Z"⟩
theorem dJ0_isLatin1_0 : decode cJ0_isLatin1 0 = .ok (.getstatic 18, 3) := by decide +kernel
theorem dJ0_isLatin1_3 : decode cJ0_isLatin1 3 = .ok (.ifCond .eq 14, 3) := by decide +kernel
theorem dJ0_isLatin1_6 : decode cJ0_isLatin1 6 = .ok (.aload_n 0, 1) := by decide +kernel
theorem dJ0_isLatin1_7 : decode cJ0_isLatin1 7 = .ok (.getfield 22, 3) := by decide +kernel
theorem dJ0_isLatin1_10 : decode cJ0_isLatin1 10 = .ok (.ifCond .ne 7, 3) := by decide +kernel
theorem dJ0_isLatin1_13 : decode cJ0_isLatin1 13 = .ok (.iconst 1, 1) := by decide +kernel
theorem dJ0_isLatin1_14 : decode cJ0_isLatin1 14 = .ok (.goto 4, 3) := by decide +kernel
theorem dJ0_isLatin1_17 : decode cJ0_isLatin1 17 = .ok (.iconst 0, 1) := by decide +kernel
theorem dJ0_isLatin1_18 : decode cJ0_isLatin1 18 = .ok (.ireturn, 1) := by decide +kernel
abbrev MJ0_isLatin1 : zT := (yJ0_isLatin1, cJ0_isLatin1, 1, (Option.some Jvm.ClassFile.FieldType.boolean), [])
theorem plJ0_isLatin1 : zplain MJ0_isLatin1 0 ∧ (zcodeW MJ0_isLatin1 ∈ lw_all ∧ Cond.initialized MJ0_isLatin1.1.cls ∈ lw_all) := ⟨⟨by decide +kernel, by decide +kernel⟩, q486, q102⟩
noncomputable def f_J0_isLatin1_18 (t0 : Int) (σ : zM) : Option zO :=
  zgd (z01 t0) <|
  some (0, zi t0, σ)
theorem w_J0_isLatin1_18 {g : zG} {lv : Nat} {out : zO} (t0 : Int) (σ : zM) {r : zO} (h : f_J0_isLatin1_18 t0 σ = some r) (hk : (fun o : zO => o = out) r) : Gj g MJ0_isLatin1 (lv) 18 [] [zi t0] σ out := by
  revert h
  unfold f_J0_isLatin1_18
  refine gb_gd (fun hb => ?_)
  intro h
  cases h
  have hk : (0, zi t0, σ) = out := hk
  subst hk
  exact gj_ret (pc := 18) (t := .boolean) dJ0_isLatin1_18 rfl ⟨rfl, rfl⟩ (fun _ => z01E hb)
noncomputable def f_J0_isLatin1_17 (σ : zM) : Option zO :=
  f_J0_isLatin1_18 0 σ
theorem w_J0_isLatin1_17 {g : zG} {lv : Nat} {out : zO} (σ : zM) {r : zO} (h : f_J0_isLatin1_17  σ = some r) (hk : (fun o : zO => o = out) r) : Gj g MJ0_isLatin1 (lv) 17 [] [] σ out := by
  revert h
  unfold f_J0_isLatin1_17
  refine zst_ (gj_iconst (pc := 17) dJ0_isLatin1_17 (by decide)) ?_
  exact fun h => w_J0_isLatin1_18 0 σ h hk
noncomputable def f_J0_isLatin1 (x0 : Int) (σ : zM) : Option zO :=
  if (1 : Int) = 0 then
    f_J0_isLatin1_17 σ
  else
    (zgf σ 2001 x0).bind fun v1 =>
    if v1 ≠ 0 then
      f_J0_isLatin1_17 σ
    else
      f_J0_isLatin1_18 1 σ
theorem c_J0_isLatin1 {g : zG} {lv : Nat} {x0 : Int} {σ : zM} {out : zO} (h : f_J0_isLatin1 x0 σ = some out) : Cj g (lv) MJ0_isLatin1 [zr x0] σ out := by
  refine cj_go (ls := [(0, zr x0)]) (by decide) (Nat.le_of_ble_eq_true rfl) rfl (zgen h (fun r hk => ?_))
  unfold f_J0_isLatin1
  refine zst_ (gj_compact (pc := 0) dJ0_isLatin1_0 q163) ?_
  refine gb_if (gj_if_eq 17 (pc := 3) dJ0_isLatin1_3 (by decide)) ?_ ?_
  · refine zst_ (gj_sub [] rfl) ?_
    exact fun h => w_J0_isLatin1_17 σ h hk
  · refine zst_ (gj_aload_n 0 (pc := 6) dJ0_isLatin1_6 rfl) ?_
    refine gb_get (pc := 7) fl2001 dJ0_isLatin1_7 q173 (Or.inl rfl) (fun v1 => ?_)
    refine gb_if (gj_if_ne 17 (pc := 10) dJ0_isLatin1_10 (by decide)) ?_ ?_
    · refine zst_ (gj_sub [] rfl) ?_
      exact fun h => w_J0_isLatin1_17 σ h hk
    · refine zst_ (gj_iconst (pc := 13) dJ0_isLatin1_13 (by decide)) ?_
      refine zst_ (gj_goto 18 (pc := 14) dJ0_isLatin1_14 (by decide)) ?_
      refine zst_ (gj_sub [] rfl) ?_
      exact fun h => w_J0_isLatin1_18 1 σ h hk
theorem q120 : (Jvm.Cond.initialized "java/util/Arrays") ∈ lw_all := lw_g (lw_at lw_m1 20 rfl) rfl
theorem q616 : (Jvm.Cond.code ({ cls := "java/util/Arrays", name := "checkLength", desc := "(II)V" } : Jvm.MethodName) prog_48_method_131_code (2 : Nat) (Option.none : Option Jvm.ClassFile.FieldType)) ∈ lw_all := lw_g (lw_at lw_m3 36 rfl) rfl
abbrev cJ13_checkLength : ByteArray := prog_48_method_131_code
def yJ13_checkLength : MethodName := ⟨RJ13, "checkLength", "(II)V"⟩
theorem dJ13_checkLength_0 : decode cJ13_checkLength 0 = .ok (.iload_n 1, 1) := by decide +kernel
theorem dJ13_checkLength_1 : decode cJ13_checkLength 1 = .ok (.iload_n 0, 1) := by decide +kernel
theorem dJ13_checkLength_2 : decode cJ13_checkLength 2 = .ok (.if_icmp .ge 35, 3) := by decide +kernel
theorem dJ13_checkLength_5 : decode cJ13_checkLength 5 = .ok (.new 43, 3) := by decide +kernel
theorem dJ13_checkLength_8 : decode cJ13_checkLength 8 = .ok (.dup, 1) := by decide +kernel
theorem dJ13_checkLength_9 : decode cJ13_checkLength 9 = .ok (.new 45, 3) := by decide +kernel
theorem dJ13_checkLength_12 : decode cJ13_checkLength 12 = .ok (.dup, 1) := by decide +kernel
theorem dJ13_checkLength_13 : decode cJ13_checkLength 13 = .ok (.invokespecial 47, 3) := by decide +kernel
theorem dJ13_checkLength_16 : decode cJ13_checkLength 16 = .ok (.iload_n 0, 1) := by decide +kernel
theorem dJ13_checkLength_17 : decode cJ13_checkLength 17 = .ok (.invokevirtual 54, 3) := by decide +kernel
theorem dJ13_checkLength_20 : decode cJ13_checkLength 20 = .ok (.ldc_w 337, 3) := by decide +kernel
theorem dJ13_checkLength_23 : decode cJ13_checkLength 23 = .ok (.invokevirtual 50, 3) := by decide +kernel
theorem dJ13_checkLength_26 : decode cJ13_checkLength 26 = .ok (.iload_n 1, 1) := by decide +kernel
theorem dJ13_checkLength_27 : decode cJ13_checkLength 27 = .ok (.invokevirtual 54, 3) := by decide +kernel
theorem dJ13_checkLength_30 : decode cJ13_checkLength 30 = .ok (.invokevirtual 61, 3) := by decide +kernel
theorem dJ13_checkLength_33 : decode cJ13_checkLength 33 = .ok (.invokespecial 65, 3) := by decide +kernel
theorem dJ13_checkLength_36 : decode cJ13_checkLength 36 = .ok (.athrow, 1) := by decide +kernel
theorem dJ13_checkLength_37 : decode cJ13_checkLength 37 = .ok (.return_, 1) := by decide +kernel
abbrev MJ13_checkLength : zT := (yJ13_checkLength, cJ13_checkLength, 2, (Option.none : Option Jvm.ClassFile.FieldType), [])
theorem plJ13_checkLength : zplain MJ13_checkLength 2 ∧ (zcodeW MJ13_checkLength ∈ lw_all ∧ Cond.initialized MJ13_checkLength.1.cls ∈ lw_all) := ⟨⟨by decide +kernel, by decide +kernel⟩, q616, q120⟩
noncomputable def f_J13_checkLength (x0 x1 : Int) (σ : zM) : Option zO :=
  if x0 ≤ x1 then
    some (0, ((3, 0) : zV), σ)
  else
    none
theorem c_J13_checkLength {g : zG} {lv : Nat} {x0 x1 : Int} {σ : zM} {out : zO} (h : f_J13_checkLength x0 x1 σ = some out) : Cj g (lv) MJ13_checkLength [zi x0, zi x1] σ out := by
  refine cj_go (ls := [(0, zi x0), (1, zi x1)]) (by decide) (Nat.le_of_ble_eq_true rfl) rfl (zgen h (fun r hk => ?_))
  unfold f_J13_checkLength
  refine zst_ (gj_iload_n 1 (pc := 0) dJ13_checkLength_0 rfl) ?_
  refine zst_ (gj_iload_n 0 (pc := 1) dJ13_checkLength_1 rfl) ?_
  refine gb_if (gj_icmp_ge 37 (pc := 2) dJ13_checkLength_2 (by decide)) ?_ ?_
  · intro h
    cases h
    have hk : (0, ((3, 0) : zV), σ) = out := hk
    subst hk
    exact gj_vret (pc := 37) dJ13_checkLength_37 rfl
  · exact (fun h => by cases h)
theorem q119 : (Jvm.Cond.initialized "java/lang/Math") ∈ lw_all := lw_g (lw_at lw_m1 19 rfl) rfl
theorem q121 : (Jvm.Cond.initialized "java/lang/System") ∈ lw_all := lw_g (lw_at lw_m1 21 rfl) rfl
theorem q186 : (Jvm.Cond.arrayClass Jvm.ClassFile.FieldType.byte) ∈ lw_all := lw_g (lw_at lw_m1 86 rfl) rfl
theorem q476 : (Jvm.Cond.methodLink "java/util/Arrays" (304 : Nat) ({ cls := "java/lang/Math", name := "min", desc := "(II)I" } : Jvm.MethodName)) ∈ lw_all := lw_g (lw_at lw_m2 136 rfl) rfl
theorem q477 : (Jvm.Cond.static ({ cls := "java/lang/Math", name := "min", desc := "(II)I" } : Jvm.MethodName)) ∈ lw_all := lw_g (lw_at lw_m2 137 rfl) rfl
theorem q478 : (Jvm.Cond.code ({ cls := "java/lang/Math", name := "min", desc := "(II)I" } : Jvm.MethodName) prog_34_method_69_code (2 : Nat) (Option.some Jvm.ClassFile.FieldType.int)) ∈ lw_all := lw_g (lw_at lw_m2 138 rfl) rfl
theorem q479 : (Jvm.Cond.methodLink "java/util/Arrays" (150 : Nat) ({ cls := "java/lang/System", name := "arraycopy", desc := "(Ljava/lang/Object;ILjava/lang/Object;II)V" } : Jvm.MethodName)) ∈ lw_all := lw_g (lw_at lw_m2 139 rfl) rfl
theorem q480 : (Jvm.Cond.static ({ cls := "java/lang/System", name := "arraycopy", desc := "(Ljava/lang/Object;ILjava/lang/Object;II)V" } : Jvm.MethodName)) ∈ lw_all := lw_g (lw_at lw_m2 140 rfl) rfl
theorem q481 : (Jvm.Cond.native ({ cls := "java/lang/System", name := "arraycopy", desc := "(Ljava/lang/Object;ILjava/lang/Object;II)V" } : Jvm.MethodName)) ∈ lw_all := lw_g (lw_at lw_m2 141 rfl) rfl
theorem q613 : (Jvm.Cond.code ({ cls := "java/util/Arrays", name := "copyOfRangeByte", desc := "([BII)[B" } : Jvm.MethodName) prog_48_method_133_code (5 : Nat) (Option.some (Jvm.ClassFile.FieldType.array Jvm.ClassFile.FieldType.byte))) ∈ lw_all := lw_g (lw_at lw_m3 33 rfl) rfl
theorem q614 : (Jvm.Cond.methodLink "java/util/Arrays" (343 : Nat) ({ cls := "java/util/Arrays", name := "checkLength", desc := "(II)V" } : Jvm.MethodName)) ∈ lw_all := lw_g (lw_at lw_m3 34 rfl) rfl
theorem q615 : (Jvm.Cond.static ({ cls := "java/util/Arrays", name := "checkLength", desc := "(II)V" } : Jvm.MethodName)) ∈ lw_all := lw_g (lw_at lw_m3 35 rfl) rfl
abbrev cJ13_copyOfRangeByte : ByteArray := prog_48_method_133_code
def yJ13_copyOfRangeByte : MethodName := ⟨RJ13, "copyOfRangeByte", "([BII)[B"⟩
theorem dJ13_copyOfRangeByte_0 : decode cJ13_copyOfRangeByte 0 = .ok (.iload_n 1, 1) := by decide +kernel
theorem dJ13_copyOfRangeByte_1 : decode cJ13_copyOfRangeByte 1 = .ok (.iload_n 2, 1) := by decide +kernel
theorem dJ13_copyOfRangeByte_2 : decode cJ13_copyOfRangeByte 2 = .ok (.invokestatic 343, 3) := by decide +kernel
theorem dJ13_copyOfRangeByte_5 : decode cJ13_copyOfRangeByte 5 = .ok (.iload_n 2, 1) := by decide +kernel
theorem dJ13_copyOfRangeByte_6 : decode cJ13_copyOfRangeByte 6 = .ok (.iload_n 1, 1) := by decide +kernel
theorem dJ13_copyOfRangeByte_7 : decode cJ13_copyOfRangeByte 7 = .ok (.isub, 1) := by decide +kernel
theorem dJ13_copyOfRangeByte_8 : decode cJ13_copyOfRangeByte 8 = .ok (.istore_n 3, 1) := by decide +kernel
theorem dJ13_copyOfRangeByte_9 : decode cJ13_copyOfRangeByte 9 = .ok (.iload_n 3, 1) := by decide +kernel
theorem dJ13_copyOfRangeByte_10 : decode cJ13_copyOfRangeByte 10 = .ok (.newarray .byte, 2) := by decide +kernel
theorem dJ13_copyOfRangeByte_12 : decode cJ13_copyOfRangeByte 12 = .ok (.astore 4, 2) := by decide +kernel
theorem dJ13_copyOfRangeByte_14 : decode cJ13_copyOfRangeByte 14 = .ok (.aload_n 0, 1) := by decide +kernel
theorem dJ13_copyOfRangeByte_15 : decode cJ13_copyOfRangeByte 15 = .ok (.iload_n 1, 1) := by decide +kernel
theorem dJ13_copyOfRangeByte_16 : decode cJ13_copyOfRangeByte 16 = .ok (.aload 4, 2) := by decide +kernel
theorem dJ13_copyOfRangeByte_18 : decode cJ13_copyOfRangeByte 18 = .ok (.iconst 0, 1) := by decide +kernel
theorem dJ13_copyOfRangeByte_19 : decode cJ13_copyOfRangeByte 19 = .ok (.aload_n 0, 1) := by decide +kernel
theorem dJ13_copyOfRangeByte_20 : decode cJ13_copyOfRangeByte 20 = .ok (.arraylength, 1) := by decide +kernel
theorem dJ13_copyOfRangeByte_21 : decode cJ13_copyOfRangeByte 21 = .ok (.iload_n 1, 1) := by decide +kernel
theorem dJ13_copyOfRangeByte_22 : decode cJ13_copyOfRangeByte 22 = .ok (.isub, 1) := by decide +kernel
theorem dJ13_copyOfRangeByte_23 : decode cJ13_copyOfRangeByte 23 = .ok (.iload_n 3, 1) := by decide +kernel
theorem dJ13_copyOfRangeByte_24 : decode cJ13_copyOfRangeByte 24 = .ok (.invokestatic 304, 3) := by decide +kernel
theorem dJ13_copyOfRangeByte_27 : decode cJ13_copyOfRangeByte 27 = .ok (.invokestatic 150, 3) := by decide +kernel
theorem dJ13_copyOfRangeByte_30 : decode cJ13_copyOfRangeByte 30 = .ok (.aload 4, 2) := by decide +kernel
theorem dJ13_copyOfRangeByte_32 : decode cJ13_copyOfRangeByte 32 = .ok (.areturn, 1) := by decide +kernel
abbrev MJ13_copyOfRangeByte : zT := (yJ13_copyOfRangeByte, cJ13_copyOfRangeByte, 5, (Option.some (Jvm.ClassFile.FieldType.array Jvm.ClassFile.FieldType.byte)), [])
theorem plJ13_copyOfRangeByte : zplain MJ13_copyOfRangeByte 3 ∧ (zcodeW MJ13_copyOfRangeByte ∈ lw_all ∧ Cond.initialized MJ13_copyOfRangeByte.1.cls ∈ lw_all) := ⟨⟨by decide +kernel, by decide +kernel⟩, q613, q120⟩
noncomputable def f_J13_copyOfRangeByte (x0 x1 x2 : Int) (σ : zM) : Option zO :=
  zcv (f_J13_checkLength x1 x2 σ) fun σ1 =>
  zlet ((zsub x2 x1)) fun y2 =>
  (znA σ1 104 y2).bind fun σ3 =>
  zlet ((↑(zN σ1) : Int)) fun y4 =>
  (zla σ3 104 x0).bind fun v5 =>
  zlet (if y2 < (zsub v5 x1) then y2 else (zsub v5 x1)) fun y6 =>
  (zcp σ3 104 x0 x1 y4 0 y6).bind fun σ7 =>
  some (0, zr y4, σ7)
theorem c_J13_copyOfRangeByte {g : zG} {lv : Nat} {x0 x1 x2 : Int} {σ : zM} {out : zO} (h : f_J13_copyOfRangeByte x0 x1 x2 σ = some out) : Cj g (lv + 1) MJ13_copyOfRangeByte [zr x0, zi x1, zi x2] σ out := by
  refine cj_go (ls := [(0, zr x0), (1, zi x1), (2, zi x2)]) (by decide) (Nat.le_of_ble_eq_true rfl) rfl (zgen h (fun r hk => ?_))
  unfold f_J13_copyOfRangeByte
  refine zst_ (gj_iload_n 1 (pc := 0) dJ13_copyOfRangeByte_0 rfl) ?_
  refine zst_ (gj_iload_n 2 (pc := 1) dJ13_copyOfRangeByte_1 rfl) ?_
  refine gb_callV (pc := 2) (as := [zi x1, zi x2]) (rest := []) (zCl.of (zLk_S (M := MJ13_copyOfRangeByte) plJ13_checkLength.1 rfl dJ13_copyOfRangeByte_2 q614 q615 q120 q616) plJ13_checkLength (Nat.le_of_ble_eq_true rfl) (fun h => c_J13_checkLength h)) (fun σ1 => ?_)
  refine zst_ (gj_iload_n 2 (pc := 5) dJ13_copyOfRangeByte_5 rfl) ?_
  refine zst_ (gj_iload_n 1 (pc := 6) dJ13_copyOfRangeByte_6 rfl) ?_
  refine zst_ (gj_isub (pc := 7) dJ13_copyOfRangeByte_7) ?_
  refine gb_let (fun y2 => ?_)
  refine zst_ (gj_istore_n (pc := 8) (ls' := [(3, zi y2), (0, zr x0), (1, zi x1), (2, zi x2)]) dJ13_copyOfRangeByte_8 (by decide) rfl) ?_
  refine zst_ (gj_iload_n 0 (pc := 9) dJ13_copyOfRangeByte_9 rfl) ?_
  refine gb_newa (pc := 10) (k := 104) ⟨by decide, by decide⟩ rfl dJ13_copyOfRangeByte_10 q186 (fun σ3 => ?_)
  refine gb_let (fun y4 => ?_)
  refine zst_ (gj_astore (pc := 12) (ls' := [(4, zr y4), (3, zi y2), (0, zr x0), (1, zi x1), (2, zi x2)]) dJ13_copyOfRangeByte_12 (by decide) rfl) ?_
  refine zst_ (gj_aload_n 2 (pc := 14) dJ13_copyOfRangeByte_14 rfl) ?_
  refine zst_ (gj_iload_n 3 (pc := 15) dJ13_copyOfRangeByte_15 rfl) ?_
  refine zst_ (gj_aload 0 (pc := 16) dJ13_copyOfRangeByte_16 rfl) ?_
  refine zst_ (gj_iconst (pc := 18) dJ13_copyOfRangeByte_18 (by decide)) ?_
  refine zst_ (gj_aload_n 2 (pc := 19) dJ13_copyOfRangeByte_19 rfl) ?_
  refine gb_alen (pc := 20) (k := 104) (by decide) dJ13_copyOfRangeByte_20 (fun v5 => ?_)
  refine zst_ (gj_iload_n 3 (pc := 21) dJ13_copyOfRangeByte_21 rfl) ?_
  refine zst_ (gj_isub (pc := 22) dJ13_copyOfRangeByte_22) ?_
  refine zst_ (gj_iload_n 1 (pc := 23) dJ13_copyOfRangeByte_23 rfl) ?_
  refine zst_ (gj_mmin (pc := 24) dJ13_copyOfRangeByte_24 q476 q477 q119 q478 (by omega) (Nat.le_of_ble_eq_true rfl)) ?_
  refine gb_let (fun y6 => ?_)
  refine gb_acopy (pc := 27) (k := 104) (Or.inl rfl) (by omega) (Nat.le_of_ble_eq_true rfl) dJ13_copyOfRangeByte_27 q479 q481 q480 q121 (fun σ7 => ?_)
  refine zst_ (gj_aload 0 (pc := 30) dJ13_copyOfRangeByte_30 rfl) ?_
  intro h
  cases h
  have hk : (0, zr y4, σ7) = out := hk
  subst hk
  exact gj_aret (pc := 32) dJ13_copyOfRangeByte_32 rfl (Or.inr ⟨_, rfl⟩)
theorem q469 : (Jvm.Cond.methodLink "java/util/Arrays" (310 : Nat) ({ cls := "[B", name := "clone", desc := "()Ljava/lang/Object;" } : Jvm.MethodName)) ∈ lw_all := lw_g (lw_at lw_m2 129 rfl) rfl
theorem q470 : (Jvm.Cond.sameMethod "[B" "java/lang/Object" "clone" "()Ljava/lang/Object;") ∈ lw_all := lw_g (lw_at lw_m2 130 rfl) rfl
theorem q471 : (Jvm.Cond.native ({ cls := "java/lang/Object", name := "clone", desc := "()Ljava/lang/Object;" } : Jvm.MethodName)) ∈ lw_all := lw_g (lw_at lw_m2 131 rfl) rfl
theorem q472 : (Jvm.Cond.instanceMethod ({ cls := "java/lang/Object", name := "clone", desc := "()Ljava/lang/Object;" } : Jvm.MethodName)) ∈ lw_all := lw_g (lw_at lw_m2 132 rfl) rfl
theorem q473 : (Jvm.Cond.selects "[B" ({ cls := "[B", name := "clone", desc := "()Ljava/lang/Object;" } : Jvm.MethodName) ({ cls := "java/lang/Object", name := "clone", desc := "()Ljava/lang/Object;" } : Jvm.MethodName)) ∈ lw_all := lw_g (lw_at lw_m2 133 rfl) rfl
theorem q474 : (Jvm.Cond.castable "[B" "java/lang/Cloneable") ∈ lw_tbl := lw_at lw_m2 134 rfl
theorem q475 : (Jvm.Cond.classLink "java/util/Arrays" (311 : Nat) "[B") ∈ lw_all := lw_g (lw_at lw_m2 135 rfl) rfl
theorem q610 : (Jvm.Cond.code ({ cls := "java/util/Arrays", name := "copyOfRange", desc := "([BII)[B" } : Jvm.MethodName) prog_48_method_132_code (3 : Nat) (Option.some (Jvm.ClassFile.FieldType.array Jvm.ClassFile.FieldType.byte))) ∈ lw_all := lw_g (lw_at lw_m3 30 rfl) rfl
theorem q611 : (Jvm.Cond.methodLink "java/util/Arrays" (339 : Nat) ({ cls := "java/util/Arrays", name := "copyOfRangeByte", desc := "([BII)[B" } : Jvm.MethodName)) ∈ lw_all := lw_g (lw_at lw_m3 31 rfl) rfl
theorem q612 : (Jvm.Cond.static ({ cls := "java/util/Arrays", name := "copyOfRangeByte", desc := "([BII)[B" } : Jvm.MethodName)) ∈ lw_all := lw_g (lw_at lw_m3 32 rfl) rfl
abbrev cJ13_copyOfRange : ByteArray := prog_48_method_132_code
def yJ13_copyOfRange : MethodName := ⟨RJ13, "copyOfRange", "([BII)[B"⟩
theorem dJ13_copyOfRange_0 : decode cJ13_copyOfRange 0 = .ok (.iload_n 1, 1) := by decide +kernel
theorem dJ13_copyOfRange_1 : decode cJ13_copyOfRange 1 = .ok (.ifCond .ne 9, 3) := by decide +kernel
theorem dJ13_copyOfRange_4 : decode cJ13_copyOfRange 4 = .ok (.iload_n 2, 1) := by decide +kernel
theorem dJ13_copyOfRange_5 : decode cJ13_copyOfRange 5 = .ok (.aload_n 0, 1) := by decide +kernel
theorem dJ13_copyOfRange_6 : decode cJ13_copyOfRange 6 = .ok (.arraylength, 1) := by decide +kernel
theorem dJ13_copyOfRange_7 : decode cJ13_copyOfRange 7 = .ok (.if_icmp .eq 10, 3) := by decide +kernel
theorem dJ13_copyOfRange_10 : decode cJ13_copyOfRange 10 = .ok (.aload_n 0, 1) := by decide +kernel
theorem dJ13_copyOfRange_11 : decode cJ13_copyOfRange 11 = .ok (.iload_n 1, 1) := by decide +kernel
theorem dJ13_copyOfRange_12 : decode cJ13_copyOfRange 12 = .ok (.iload_n 2, 1) := by decide +kernel
theorem dJ13_copyOfRange_13 : decode cJ13_copyOfRange 13 = .ok (.invokestatic 339, 3) := by decide +kernel
theorem dJ13_copyOfRange_16 : decode cJ13_copyOfRange 16 = .ok (.areturn, 1) := by decide +kernel
theorem dJ13_copyOfRange_17 : decode cJ13_copyOfRange 17 = .ok (.aload_n 0, 1) := by decide +kernel
theorem dJ13_copyOfRange_18 : decode cJ13_copyOfRange 18 = .ok (.invokevirtual 310, 3) := by decide +kernel
theorem dJ13_copyOfRange_21 : decode cJ13_copyOfRange 21 = .ok (.checkcast 311, 3) := by decide +kernel
theorem dJ13_copyOfRange_24 : decode cJ13_copyOfRange 24 = .ok (.areturn, 1) := by decide +kernel
abbrev MJ13_copyOfRange : zT := (yJ13_copyOfRange, cJ13_copyOfRange, 3, (Option.some (Jvm.ClassFile.FieldType.array Jvm.ClassFile.FieldType.byte)), [])
theorem plJ13_copyOfRange : zplain MJ13_copyOfRange 3 ∧ (zcodeW MJ13_copyOfRange ∈ lw_all ∧ Cond.initialized MJ13_copyOfRange.1.cls ∈ lw_all) := ⟨⟨by decide +kernel, by decide +kernel⟩, q610, q120⟩
noncomputable def f_J13_copyOfRange_10 (x0 x1 x2 : Int) (σ : zM) : Option zO :=
  zcr (f_J13_copyOfRangeByte x0 x1 x2 σ) fun v1 σ2 =>
  some (0, zr v1, σ2)
theorem w_J13_copyOfRange_10 {g : zG} {lv : Nat} {out : zO} (x0 x1 x2 : Int) (σ : zM) {r : zO} (h : f_J13_copyOfRange_10 x0 x1 x2 σ = some r) (hk : (fun o : zO => o = out) r) : Gj g MJ13_copyOfRange (lv + 2) 10 [(0, zr x0), (1, zi x1), (2, zi x2)] [] σ out := by
  revert h
  unfold f_J13_copyOfRange_10
  refine zst_ (gj_aload_n 0 (pc := 10) dJ13_copyOfRange_10 rfl) ?_
  refine zst_ (gj_iload_n 1 (pc := 11) dJ13_copyOfRange_11 rfl) ?_
  refine zst_ (gj_iload_n 2 (pc := 12) dJ13_copyOfRange_12 rfl) ?_
  refine gb_callA (pc := 13) (as := [zr x0, zi x1, zi x2]) (rest := []) (zCl.of (zLk_S (M := MJ13_copyOfRange) plJ13_copyOfRangeByte.1 rfl dJ13_copyOfRange_13 q611 q612 q120 q613) plJ13_copyOfRangeByte (Nat.le_of_ble_eq_true rfl) (fun h => c_J13_copyOfRangeByte h)) (fun v1 σ2 => ?_)
  intro h
  cases h
  have hk : (0, zr v1, σ2) = out := hk
  subst hk
  exact gj_aret (pc := 16) dJ13_copyOfRange_16 rfl (Or.inr ⟨_, rfl⟩)
noncomputable def f_J13_copyOfRange (x0 x1 x2 : Int) (σ : zM) : Option zO :=
  if x1 ≠ 0 then
    f_J13_copyOfRange_10 x0 x1 x2 σ
  else
    (zla σ 104 x0).bind fun v1 =>
    if x2 = v1 then
      (zcln σ x0).bind fun σ2 =>
      zlet ((↑(zN σ) : Int)) fun y3 =>
      zgd (zis σ2 104 y3) <|
      some (0, zr y3, σ2)
    else
      f_J13_copyOfRange_10 x0 x1 x2 σ
theorem c_J13_copyOfRange {g : zG} {lv : Nat} {x0 x1 x2 : Int} {σ : zM} {out : zO} (h : f_J13_copyOfRange x0 x1 x2 σ = some out) : Cj g (lv + 2) MJ13_copyOfRange [zr x0, zi x1, zi x2] σ out := by
  refine cj_go (ls := [(0, zr x0), (1, zi x1), (2, zi x2)]) (by decide) (Nat.le_of_ble_eq_true rfl) rfl (zgen h (fun r hk => ?_))
  unfold f_J13_copyOfRange
  refine zst_ (gj_iload_n 1 (pc := 0) dJ13_copyOfRange_0 rfl) ?_
  refine gb_if (gj_if_ne 10 (pc := 1) dJ13_copyOfRange_1 (by decide)) ?_ ?_
  · exact fun h => w_J13_copyOfRange_10 x0 x1 x2 σ h hk
  · refine zst_ (gj_iload_n 2 (pc := 4) dJ13_copyOfRange_4 rfl) ?_
    refine zst_ (gj_aload_n 0 (pc := 5) dJ13_copyOfRange_5 rfl) ?_
    refine gb_alen (pc := 6) (k := 104) (by decide) dJ13_copyOfRange_6 (fun v1 => ?_)
    refine gb_if (gj_icmp_eq 17 (pc := 7) dJ13_copyOfRange_7 (by decide)) ?_ ?_
    · refine zst_ (gj_aload_n 0 (pc := 17) dJ13_copyOfRange_17 rfl) ?_
      refine gb_clone (pc := 18) (by omega) (Nat.le_of_ble_eq_true rfl) dJ13_copyOfRange_18 q469 q470 q471 q472 q473 q474 (fun σ2 => ?_)
      refine gb_let (fun y3 => ?_)
      refine gb_gd (fun hb => ?_)
      refine zst_ (gj_castA (pc := 21) (k := 104) ⟨by decide, by decide⟩ (fun U cA h => h) (zisE hb).1 (zisE hb).2 dJ13_copyOfRange_21 q475) ?_
      intro h
      cases h
      have hk : (0, zr y3, σ2) = out := hk
      subst hk
      exact gj_aret (pc := 24) dJ13_copyOfRange_24 rfl (Or.inr ⟨_, rfl⟩)
    · exact fun h => w_J13_copyOfRange_10 x0 x1 x2 σ h hk
theorem q104 : (Jvm.Cond.initialized "java/lang/String") ∈ lw_all := lw_g (lw_at lw_m1 4 rfl) rfl
theorem q152 : (Jvm.Cond.instanceMethod ({ cls := "java/lang/Object", name := "<init>", desc := "()V" } : Jvm.MethodName)) ∈ lw_all := lw_g (lw_at lw_m1 52 rfl) rfl
theorem q153 : (Jvm.Cond.code ({ cls := "java/lang/Object", name := "<init>", desc := "()V" } : Jvm.MethodName) object_method_1_code (1 : Nat) (Option.none : Option Jvm.ClassFile.FieldType)) ∈ lw_all := lw_g (lw_at lw_m1 53 rfl) rfl
theorem q175 : (Jvm.Cond.fieldLink "java/lang/String" (1048 : Nat) "java/lang/AbstractStringBuilder" "maybeLatin1" "Z") ∈ lw_all := lw_g (lw_at lw_m1 75 rfl) rfl
theorem q483 : (Jvm.Cond.instanceMethod ({ cls := "java/lang/AbstractStringBuilder", name := "isLatin1", desc := "()Z" } : Jvm.MethodName)) ∈ lw_all := lw_g (lw_at lw_m2 143 rfl) rfl
theorem q485 : (Jvm.Cond.selects "java/lang/StringBuilder" ({ cls := "java/lang/AbstractStringBuilder", name := "isLatin1", desc := "()Z" } : Jvm.MethodName) ({ cls := "java/lang/AbstractStringBuilder", name := "isLatin1", desc := "()Z" } : Jvm.MethodName)) ∈ lw_all := lw_g (lw_at lw_m2 145 rfl) rfl
theorem q521 : (Jvm.Cond.fieldLink "java/lang/String" (38 : Nat) "java/lang/String" "COMPACT_STRINGS" "Z") ∈ lw_all := lw_g (lw_at lw_m2 181 rfl) rfl
theorem q592 : (Jvm.Cond.code ({ cls := "java/lang/String", name := "<init>", desc := "(Ljava/lang/AbstractStringBuilder;Ljava/lang/Void;)V" } : Jvm.MethodName) prog_37_method_150_code (5 : Nat) (Option.none : Option Jvm.ClassFile.FieldType)) ∈ lw_all := lw_g (lw_at lw_m3 12 rfl) rfl
theorem q593 : (Jvm.Cond.methodLink "java/lang/String" (1 : Nat) ({ cls := "java/lang/Object", name := "<init>", desc := "()V" } : Jvm.MethodName)) ∈ lw_all := lw_g (lw_at lw_m3 13 rfl) rfl
theorem q594 : (Jvm.Cond.methodLink "java/lang/String" (552 : Nat) ({ cls := "java/lang/AbstractStringBuilder", name := "getValue", desc := "()[B" } : Jvm.MethodName)) ∈ lw_all := lw_g (lw_at lw_m3 14 rfl) rfl
theorem q595 : (Jvm.Cond.instanceMethod ({ cls := "java/lang/AbstractStringBuilder", name := "getValue", desc := "()[B" } : Jvm.MethodName)) ∈ lw_all := lw_g (lw_at lw_m3 15 rfl) rfl
theorem q597 : (Jvm.Cond.selects "java/lang/StringBuilder" ({ cls := "java/lang/AbstractStringBuilder", name := "getValue", desc := "()[B" } : Jvm.MethodName) ({ cls := "java/lang/AbstractStringBuilder", name := "getValue", desc := "()[B" } : Jvm.MethodName)) ∈ lw_all := lw_g (lw_at lw_m3 17 rfl) rfl
theorem q599 : (Jvm.Cond.methodLink "java/lang/String" (549 : Nat) ({ cls := "java/lang/AbstractStringBuilder", name := "length", desc := "()I" } : Jvm.MethodName)) ∈ lw_all := lw_g (lw_at lw_m3 19 rfl) rfl
theorem q602 : (Jvm.Cond.selects "java/lang/StringBuilder" ({ cls := "java/lang/AbstractStringBuilder", name := "length", desc := "()I" } : Jvm.MethodName) ({ cls := "java/lang/StringBuilder", name := "length", desc := "()I" } : Jvm.MethodName)) ∈ lw_all := lw_g (lw_at lw_m3 22 rfl) rfl
theorem q603 : (Jvm.Cond.instanceMethod ({ cls := "java/lang/StringBuilder", name := "length", desc := "()I" } : Jvm.MethodName)) ∈ lw_all := lw_g (lw_at lw_m3 23 rfl) rfl
theorem q607 : (Jvm.Cond.methodLink "java/lang/String" (1047 : Nat) ({ cls := "java/lang/AbstractStringBuilder", name := "isLatin1", desc := "()Z" } : Jvm.MethodName)) ∈ lw_all := lw_g (lw_at lw_m3 27 rfl) rfl
theorem q608 : (Jvm.Cond.methodLink "java/lang/String" (54 : Nat) ({ cls := "java/util/Arrays", name := "copyOfRange", desc := "([BII)[B" } : Jvm.MethodName)) ∈ lw_all := lw_g (lw_at lw_m3 28 rfl) rfl
theorem q609 : (Jvm.Cond.static ({ cls := "java/util/Arrays", name := "copyOfRange", desc := "([BII)[B" } : Jvm.MethodName)) ∈ lw_all := lw_g (lw_at lw_m3 29 rfl) rfl
theorem q662 : (Jvm.Cond.fieldLink "java/lang/String" (9 : Nat) "java/lang/String" "value" "[B") ∈ lw_all := lw_g (lw_at lw_m3 82 rfl) rfl
theorem q663 : (Jvm.Cond.fieldLink "java/lang/String" (15 : Nat) "java/lang/String" "coder" "B") ∈ lw_all := lw_g (lw_at lw_m3 83 rfl) rfl
theorem fl2002 : zfl 2002 0 "java/lang/AbstractStringBuilder" "maybeLatin1" "Z" false := ⟨rfl, rfl, rfl⟩
theorem fr2002 {g : zG} {v : Int} (h : z01 v = true) : zok g (0, v) → zokt g (zft 2002) v := fun _ => z01E h
theorem fl2100 : zfl 2100 2 "java/lang/String" "value" "[B" true := ⟨rfl, rfl, rfl⟩
theorem fr2100 {g : zG} {v : Int} : zok g (2, v) → zokt g (zft 2100) v := fun h => h
theorem fl2101 : zfl 2101 0 "java/lang/String" "coder" "B" true := ⟨rfl, rfl, rfl⟩
theorem fr2101 {g : zG} {v : Int} (h : zby v = true) : zok g (0, v) → zokt g (zft 2101) v := fun _ => zbyE h
abbrev cJ2_init_2 : ByteArray := prog_37_method_150_code
def yJ2_init_2 : MethodName := ⟨RJ2, "<init>", "(Ljava/lang/AbstractStringBuilder;Ljava/lang/Void;)V"⟩
theorem dJ2_init_2_0 : decode cJ2_init_2 0 = .ok (.aload_n 0, 1) := by decide +kernel
theorem dJ2_init_2_1 : decode cJ2_init_2 1 = .ok (.invokespecial 1, 3) := by decide +kernel
theorem dJ2_init_2_4 : decode cJ2_init_2 4 = .ok (.aload_n 1, 1) := by decide +kernel
theorem dJ2_init_2_5 : decode cJ2_init_2 5 = .ok (.invokevirtual 552, 3) := by decide +kernel
theorem dJ2_init_2_8 : decode cJ2_init_2 8 = .ok (.astore_n 3, 1) := by decide +kernel
theorem dJ2_init_2_9 : decode cJ2_init_2 9 = .ok (.aload_n 1, 1) := by decide +kernel
theorem dJ2_init_2_10 : decode cJ2_init_2 10 = .ok (.invokevirtual 549, 3) := by decide +kernel
theorem dJ2_init_2_13 : decode cJ2_init_2 13 = .ok (.istore 4, 2) := by decide +kernel
theorem dJ2_init_2_15 : decode cJ2_init_2 15 = .ok (.aload_n 1, 1) := by decide +kernel
theorem dJ2_init_2_16 : decode cJ2_init_2 16 = .ok (.invokevirtual 1047, 3) := by decide +kernel
theorem dJ2_init_2_19 : decode cJ2_init_2 19 = .ok (.ifCond .eq 22, 3) := by decide +kernel
theorem dJ2_init_2_22 : decode cJ2_init_2 22 = .ok (.aload_n 0, 1) := by decide +kernel
theorem dJ2_init_2_23 : decode cJ2_init_2 23 = .ok (.iconst 0, 1) := by decide +kernel
theorem dJ2_init_2_24 : decode cJ2_init_2 24 = .ok (.putfield 15, 3) := by decide +kernel
theorem dJ2_init_2_27 : decode cJ2_init_2 27 = .ok (.aload_n 0, 1) := by decide +kernel
theorem dJ2_init_2_28 : decode cJ2_init_2 28 = .ok (.aload_n 3, 1) := by decide +kernel
theorem dJ2_init_2_29 : decode cJ2_init_2 29 = .ok (.iconst 0, 1) := by decide +kernel
theorem dJ2_init_2_30 : decode cJ2_init_2 30 = .ok (.iload 4, 2) := by decide +kernel
theorem dJ2_init_2_32 : decode cJ2_init_2 32 = .ok (.invokestatic 54, 3) := by decide +kernel
theorem dJ2_init_2_35 : decode cJ2_init_2 35 = .ok (.putfield 9, 3) := by decide +kernel
theorem dJ2_init_2_38 : decode cJ2_init_2 38 = .ok (.goto 59, 3) := by decide +kernel
theorem dJ2_init_2_41 : decode cJ2_init_2 41 = .ok (.getstatic 38, 3) := by decide +kernel
theorem dJ2_init_2_44 : decode cJ2_init_2 44 = .ok (.ifCond .eq 35, 3) := by decide +kernel
theorem dJ2_init_2_47 : decode cJ2_init_2 47 = .ok (.aload_n 1, 1) := by decide +kernel
theorem dJ2_init_2_48 : decode cJ2_init_2 48 = .ok (.getfield 1048, 3) := by decide +kernel
theorem dJ2_init_2_51 : decode cJ2_init_2 51 = .ok (.ifCond .eq 28, 3) := by decide +kernel
theorem dJ2_init_2_54 : decode cJ2_init_2 54 = .ok (.aload_n 0, 1) := by decide +kernel
theorem dJ2_init_2_55 : decode cJ2_init_2 55 = .ok (.aload_n 3, 1) := by decide +kernel
theorem dJ2_init_2_56 : decode cJ2_init_2 56 = .ok (.iconst 0, 1) := by decide +kernel
theorem dJ2_init_2_57 : decode cJ2_init_2 57 = .ok (.iload 4, 2) := by decide +kernel
theorem dJ2_init_2_59 : decode cJ2_init_2 59 = .ok (.invokestatic 1051, 3) := by decide +kernel
theorem dJ2_init_2_62 : decode cJ2_init_2 62 = .ok (.putfield 9, 3) := by decide +kernel
theorem dJ2_init_2_65 : decode cJ2_init_2 65 = .ok (.aload_n 0, 1) := by decide +kernel
theorem dJ2_init_2_66 : decode cJ2_init_2 66 = .ok (.aload_n 0, 1) := by decide +kernel
theorem dJ2_init_2_67 : decode cJ2_init_2 67 = .ok (.getfield 9, 3) := by decide +kernel
theorem dJ2_init_2_70 : decode cJ2_init_2 70 = .ok (.iload 4, 2) := by decide +kernel
theorem dJ2_init_2_72 : decode cJ2_init_2 72 = .ok (.invokestatic 47, 3) := by decide +kernel
theorem dJ2_init_2_75 : decode cJ2_init_2 75 = .ok (.putfield 15, 3) := by decide +kernel
theorem dJ2_init_2_78 : decode cJ2_init_2 78 = .ok (.return_, 1) := by decide +kernel
theorem dJ2_init_2_79 : decode cJ2_init_2 79 = .ok (.aload_n 0, 1) := by decide +kernel
theorem dJ2_init_2_80 : decode cJ2_init_2 80 = .ok (.iconst 1, 1) := by decide +kernel
theorem dJ2_init_2_81 : decode cJ2_init_2 81 = .ok (.putfield 15, 3) := by decide +kernel
theorem dJ2_init_2_84 : decode cJ2_init_2 84 = .ok (.aload_n 0, 1) := by decide +kernel
theorem dJ2_init_2_85 : decode cJ2_init_2 85 = .ok (.aload_n 3, 1) := by decide +kernel
theorem dJ2_init_2_86 : decode cJ2_init_2 86 = .ok (.iconst 0, 1) := by decide +kernel
theorem dJ2_init_2_87 : decode cJ2_init_2 87 = .ok (.iload 4, 2) := by decide +kernel
theorem dJ2_init_2_89 : decode cJ2_init_2 89 = .ok (.iconst 1, 1) := by decide +kernel
theorem dJ2_init_2_90 : decode cJ2_init_2 90 = .ok (.ishl, 1) := by decide +kernel
theorem dJ2_init_2_91 : decode cJ2_init_2 91 = .ok (.invokestatic 54, 3) := by decide +kernel
theorem dJ2_init_2_94 : decode cJ2_init_2 94 = .ok (.putfield 9, 3) := by decide +kernel
theorem dJ2_init_2_97 : decode cJ2_init_2 97 = .ok (.return_, 1) := by decide +kernel
abbrev MJ2_init_2 : zT := (yJ2_init_2, cJ2_init_2, 5, (Option.none : Option Jvm.ClassFile.FieldType), [])
theorem plJ2_init_2 : zplain MJ2_init_2 2 ∧ (zcodeW MJ2_init_2 ∈ lw_all ∧ Cond.initialized MJ2_init_2.1.cls ∈ lw_all) := ⟨⟨by decide +kernel, by decide +kernel⟩, q592, q104⟩
noncomputable def f_J2_init_2_97 (σ : zM) : Option zO :=
  some (0, ((3, 0) : zV), σ)
theorem w_J2_init_2_97 {g : zG} {lv : Nat} {out : zO} (σ : zM) {r : zO} (h : f_J2_init_2_97  σ = some r) (hk : (fun o : zO => o = out) r) : Gj g MJ2_init_2 (lv + 3) 97 [] [] σ out := by
  revert h
  unfold f_J2_init_2_97
  intro h
  cases h
  have hk : (0, ((3, 0) : zV), σ) = out := hk
  subst hk
  exact gj_vret (pc := 97) dJ2_init_2_97 rfl
noncomputable def f_J2_init_2_79 (x0 x3 x4 : Int) (σ : zM) : Option zO :=
  zgd (zby 1) <|
  (zpf σ 2101 x0 1).bind fun σ1 =>
  zcr (f_J13_copyOfRange x3 0 (zshl x4 1) σ1) fun v2 σ3 =>
  (zpf σ3 2100 x0 v2).bind fun σ4 =>
  f_J2_init_2_97 σ4
theorem w_J2_init_2_79 {g : zG} {lv : Nat} {out : zO} (x0 x3 x4 : Int) (σ : zM) {r : zO} (h : f_J2_init_2_79 x0 x3 x4 σ = some r) (hk : (fun o : zO => o = out) r) : Gj g MJ2_init_2 (lv + 3) 79 [(0, zr x0), (3, zr x3), (4, zi x4)] [] σ out := by
  revert h
  unfold f_J2_init_2_79
  refine zst_ (gj_aload_n 0 (pc := 79) dJ2_init_2_79 rfl) ?_
  refine zst_ (gj_iconst (pc := 80) dJ2_init_2_80 (by decide)) ?_
  refine gb_gd (fun hb => ?_)
  refine gb_putFi (pc := 81) fl2101 rfl rfl (fr2101 hb) dJ2_init_2_81 q663 (Or.inl rfl) (fun σ1 => ?_)
  refine zst_ (gj_aload_n 0 (pc := 84) dJ2_init_2_84 rfl) ?_
  refine zst_ (gj_aload_n 1 (pc := 85) dJ2_init_2_85 rfl) ?_
  refine zst_ (gj_iconst (pc := 86) dJ2_init_2_86 (by decide)) ?_
  refine zst_ (gj_iload 2 (pc := 87) dJ2_init_2_87 rfl) ?_
  refine zst_ (gj_iconst (pc := 89) dJ2_init_2_89 (by decide)) ?_
  refine zst_ (gj_ishl (pc := 90) dJ2_init_2_90) ?_
  refine gb_callA (pc := 91) (as := [zr x3, zi 0, zi (zshl x4 1)]) (rest := [zr x0]) (zCl.of (zLk_S (M := MJ2_init_2) plJ13_copyOfRange.1 rfl dJ2_init_2_91 q608 q609 q120 q610) plJ13_copyOfRange (Nat.le_of_ble_eq_true rfl) (fun h => c_J13_copyOfRange h)) (fun v2 σ3 => ?_)
  refine gb_putFi (pc := 94) fl2100 rfl rfl fr2100 dJ2_init_2_94 q662 (Or.inl rfl) (fun σ4 => ?_)
  refine zst_ (gj_sub [] rfl) ?_
  exact fun h => w_J2_init_2_97 σ4 h hk
noncomputable def f_J2_init_2 (x0 x1 x2 : Int) (σ : zM) : Option zO :=
  zgd (decide (0 ≤ x0)) <|
  zgd (zis σ 21 x1) <|
  zcr (f_J0_getValue x1 σ) fun v1 σ2 =>
  zgd (zis σ2 21 x1) <|
  zci (f_J1_length x1 σ2) fun v3 σ4 =>
  zgd (zis σ4 21 x1) <|
  zci (f_J0_isLatin1 x1 σ4) fun v5 σ6 =>
  if v5 = 0 then
    if (1 : Int) = 0 then
      f_J2_init_2_79 x0 v1 v3 σ6
    else
      (zgf σ6 2002 x1).bind fun v7 =>
      if v7 = 0 then
        f_J2_init_2_79 x0 v1 v3 σ6
      else
        none
  else
    zgd (zby 0) <|
    (zpf σ6 2101 x0 0).bind fun σ8 =>
    zcr (f_J13_copyOfRange v1 0 v3 σ8) fun v9 σ10 =>
    (zpf σ10 2100 x0 v9).bind fun σ11 =>
    f_J2_init_2_97 σ11
theorem c_J2_init_2 {g : zG} {lv : Nat} {x0 x1 x2 : Int} {σ : zM} {out : zO} (h : f_J2_init_2 x0 x1 x2 σ = some out) : Cj g (lv + 3) MJ2_init_2 [zr x0, zr x1, zr x2] σ out := by
  refine cj_go (ls := [(0, zr x0), (1, zr x1), (2, zr x2)]) (by decide) (Nat.le_of_ble_eq_true rfl) rfl (zgen h (fun r hk => ?_))
  unfold f_J2_init_2
  refine zst_ (gj_aload_n 0 (pc := 0) dJ2_init_2_0 rfl) ?_
  refine gb_gd (fun hb => ?_)
  refine zst_ (gj_obj (pc := 1) (of_decide_eq_true hb) dJ2_init_2_1 q593 q152 q153 (by omega) (Nat.le_of_ble_eq_true rfl)) ?_
  refine zst_ (gj_aload_n 1 (pc := 4) dJ2_init_2_4 rfl) ?_
  refine gb_gd (fun hb => ?_)
  refine gb_callA (pc := 5) (as := [zr x1]) (rest := []) (zCl.of (zLk_V (M := MJ2_init_2) (ci := 20) (r := (RJ1, TJ1, 4)) plJ0_getValue.1 rfl rfl (zisE hb).1 (zisE hb).2 dJ2_init_2_5 q594 q595 q597 q598) plJ0_getValue (Nat.le_of_ble_eq_true rfl) (fun h => c_J0_getValue h)) (fun v1 σ2 => ?_)
  refine zst_ (gj_astore_n (pc := 8) (ls' := [(3, zr v1), (0, zr x0), (1, zr x1), (2, zr x2)]) dJ2_init_2_8 (by decide) rfl) ?_
  refine zst_ (gj_aload_n 2 (pc := 9) dJ2_init_2_9 rfl) ?_
  refine gb_gd (fun hb => ?_)
  refine gb_callI (pc := 10) (as := [zr x1]) (rest := []) (zCl.of (zLk_O (M := MJ2_init_2) (x := ⟨"java/lang/AbstractStringBuilder", "length", "()I"⟩) (xo := ⟨"java/lang/AbstractStringBuilder", "isLatin1", "()Z"⟩) (yo := ⟨"java/lang/AbstractStringBuilder", "isLatin1", "()Z"⟩) plJ1_length.1 (by decide) rfl rfl (zRcv_obj (ci := 20) (r := (RJ1, TJ1, 4)) rfl (zisE hb).1 (zisE hb).2) rfl dJ2_init_2_10 q599 q600 q603 q602 q485 q604 q606) plJ1_length (Nat.le_of_ble_eq_true rfl) (fun h => c_J1_length h)) (fun v3 σ4 => ?_)
  refine zst_ (gj_istore (pc := 13) (ls' := [(4, zi v3), (3, zr v1), (0, zr x0), (1, zr x1), (2, zr x2)]) dJ2_init_2_13 (by decide) rfl) ?_
  refine zst_ (gj_aload_n 3 (pc := 15) dJ2_init_2_15 rfl) ?_
  refine gb_gd (fun hb => ?_)
  refine gb_callI (pc := 16) (as := [zr x1]) (rest := []) (zCl.of (zLk_V (M := MJ2_init_2) (ci := 20) (r := (RJ1, TJ1, 4)) plJ0_isLatin1.1 rfl rfl (zisE hb).1 (zisE hb).2 dJ2_init_2_16 q607 q483 q485 q486) plJ0_isLatin1 (Nat.le_of_ble_eq_true rfl) (fun h => c_J0_isLatin1 h)) (fun v5 σ6 => ?_)
  refine gb_if (gj_if_eq 41 (pc := 19) dJ2_init_2_19 (by decide)) ?_ ?_
  · refine zst_ (gj_compact (pc := 41) dJ2_init_2_41 q521) ?_
    refine gb_if (gj_if_eq 79 (pc := 44) dJ2_init_2_44 (by decide)) ?_ ?_
    · refine zst_ (gj_sub [2, 1, 0] rfl) ?_
      exact fun h => w_J2_init_2_79 x0 v1 v3 σ6 h hk
    · refine zst_ (gj_aload_n 3 (pc := 47) dJ2_init_2_47 rfl) ?_
      refine gb_get (pc := 48) fl2002 dJ2_init_2_48 q175 (Or.inl rfl) (fun v7 => ?_)
      refine gb_if (gj_if_eq 79 (pc := 51) dJ2_init_2_51 (by decide)) ?_ ?_
      · refine zst_ (gj_sub [2, 1, 0] rfl) ?_
        exact fun h => w_J2_init_2_79 x0 v1 v3 σ6 h hk
      · refine zst_ (gj_aload_n 2 (pc := 54) dJ2_init_2_54 rfl) ?_
        refine zst_ (gj_aload_n 1 (pc := 55) dJ2_init_2_55 rfl) ?_
        refine zst_ (gj_iconst (pc := 56) dJ2_init_2_56 (by decide)) ?_
        refine zst_ (gj_iload 0 (pc := 57) dJ2_init_2_57 rfl) ?_
        exact (fun h => by cases h)
  · refine zst_ (gj_aload_n 2 (pc := 22) dJ2_init_2_22 rfl) ?_
    refine zst_ (gj_iconst (pc := 23) dJ2_init_2_23 (by decide)) ?_
    refine gb_gd (fun hb => ?_)
    refine gb_putFi (pc := 24) fl2101 rfl rfl (fr2101 hb) dJ2_init_2_24 q663 (Or.inl rfl) (fun σ8 => ?_)
    refine zst_ (gj_aload_n 2 (pc := 27) dJ2_init_2_27 rfl) ?_
    refine zst_ (gj_aload_n 1 (pc := 28) dJ2_init_2_28 rfl) ?_
    refine zst_ (gj_iconst (pc := 29) dJ2_init_2_29 (by decide)) ?_
    refine zst_ (gj_iload 0 (pc := 30) dJ2_init_2_30 rfl) ?_
    refine gb_callA (pc := 32) (as := [zr v1, zi 0, zi v3]) (rest := [zr x0]) (zCl.of (zLk_S (M := MJ2_init_2) plJ13_copyOfRange.1 rfl dJ2_init_2_32 q608 q609 q120 q610) plJ13_copyOfRange (Nat.le_of_ble_eq_true rfl) (fun h => c_J13_copyOfRange h)) (fun v9 σ10 => ?_)
    refine gb_putFi (pc := 35) fl2100 rfl rfl fr2100 dJ2_init_2_35 q662 (Or.inl rfl) (fun σ11 => ?_)
    refine zst_ (gj_goto 97 (pc := 38) dJ2_init_2_38 (by decide)) ?_
    refine zst_ (gj_sub [] rfl) ?_
    exact fun h => w_J2_init_2_97 σ11 h hk
theorem q589 : (Jvm.Cond.code ({ cls := "java/lang/String", name := "<init>", desc := "(Ljava/lang/StringBuilder;)V" } : Jvm.MethodName) prog_37_method_53_code (2 : Nat) (Option.none : Option Jvm.ClassFile.FieldType)) ∈ lw_all := lw_g (lw_at lw_m3 9 rfl) rfl
theorem q590 : (Jvm.Cond.methodLink "java/lang/String" (489 : Nat) ({ cls := "java/lang/String", name := "<init>", desc := "(Ljava/lang/AbstractStringBuilder;Ljava/lang/Void;)V" } : Jvm.MethodName)) ∈ lw_all := lw_g (lw_at lw_m3 10 rfl) rfl
theorem q591 : (Jvm.Cond.instanceMethod ({ cls := "java/lang/String", name := "<init>", desc := "(Ljava/lang/AbstractStringBuilder;Ljava/lang/Void;)V" } : Jvm.MethodName)) ∈ lw_all := lw_g (lw_at lw_m3 11 rfl) rfl
abbrev cJ2_init : ByteArray := prog_37_method_53_code
def yJ2_init : MethodName := ⟨RJ2, "<init>", "(Ljava/lang/StringBuilder;)V"⟩
theorem dJ2_init_0 : decode cJ2_init 0 = .ok (.aload_n 0, 1) := by decide +kernel
theorem dJ2_init_1 : decode cJ2_init 1 = .ok (.aload_n 1, 1) := by decide +kernel
theorem dJ2_init_2 : decode cJ2_init 2 = .ok (.aconst_null, 1) := by decide +kernel
theorem dJ2_init_3 : decode cJ2_init 3 = .ok (.invokespecial 489, 3) := by decide +kernel
theorem dJ2_init_6 : decode cJ2_init 6 = .ok (.return_, 1) := by decide +kernel
abbrev MJ2_init : zT := (yJ2_init, cJ2_init, 2, (Option.none : Option Jvm.ClassFile.FieldType), [])
theorem plJ2_init : zplain MJ2_init 1 ∧ (zcodeW MJ2_init ∈ lw_all ∧ Cond.initialized MJ2_init.1.cls ∈ lw_all) := ⟨⟨by decide +kernel, by decide +kernel⟩, q589, q104⟩
noncomputable def f_J2_init (x0 x1 : Int) (σ : zM) : Option zO :=
  zgd (decide (0 ≤ x0)) <|
  zcv (f_J2_init_2 x0 x1 (-1) σ) fun σ1 =>
  some (0, ((3, 0) : zV), σ1)
theorem c_J2_init {g : zG} {lv : Nat} {x0 x1 : Int} {σ : zM} {out : zO} (h : f_J2_init x0 x1 σ = some out) : Cj g (lv + 4) MJ2_init [zr x0, zr x1] σ out := by
  refine cj_go (ls := [(0, zr x0), (1, zr x1)]) (by decide) (Nat.le_of_ble_eq_true rfl) rfl (zgen h (fun r hk => ?_))
  unfold f_J2_init
  refine zst_ (gj_aload_n 0 (pc := 0) dJ2_init_0 rfl) ?_
  refine zst_ (gj_aload_n 1 (pc := 1) dJ2_init_1 rfl) ?_
  refine zst_ (gj_null (pc := 2) dJ2_init_2) ?_
  refine gb_gd (fun hb => ?_)
  refine gb_callV (pc := 3) (as := [zr x0, zr x1, zr (-1)]) (rest := []) (zCl.of (zLk_I (M := MJ2_init) plJ2_init_2.1 rfl (of_decide_eq_true hb) rfl rfl dJ2_init_3 q590 q591 q592) plJ2_init_2 (Nat.le_of_ble_eq_true rfl) (fun h => c_J2_init_2 h)) (fun σ1 => ?_)
  intro h
  cases h
  have hk : (0, ((3, 0) : zV), σ1) = out := hk
  subst hk
  exact gj_vret (pc := 6) dJ2_init_6 rfl
theorem q584 : (Jvm.Cond.code ({ cls := "java/lang/StringBuilder", name := "toString", desc := "()Ljava/lang/String;" } : Jvm.MethodName) prog_38_method_42_code (1 : Nat) (Option.some (Jvm.ClassFile.FieldType.object "java/lang/String"))) ∈ lw_all := lw_g (lw_at lw_m3 4 rfl) rfl
theorem q585 : (Jvm.Cond.classLink "java/lang/StringBuilder" (18 : Nat) "java/lang/String") ∈ lw_all := lw_g (lw_at lw_m3 5 rfl) rfl
theorem q586 : (Jvm.Cond.instantiable "java/lang/String" (4 : Nat)) ∈ lw_all := lw_g (lw_at lw_m3 6 rfl) rfl
theorem q587 : (Jvm.Cond.methodLink "java/lang/StringBuilder" (137 : Nat) ({ cls := "java/lang/String", name := "<init>", desc := "(Ljava/lang/StringBuilder;)V" } : Jvm.MethodName)) ∈ lw_all := lw_g (lw_at lw_m3 7 rfl) rfl
theorem q588 : (Jvm.Cond.instanceMethod ({ cls := "java/lang/String", name := "<init>", desc := "(Ljava/lang/StringBuilder;)V" } : Jvm.MethodName)) ∈ lw_all := lw_g (lw_at lw_m3 8 rfl) rfl
abbrev cJ1_toString : ByteArray := prog_38_method_42_code
def yJ1_toString : MethodName := ⟨RJ1, "toString", "()Ljava/lang/String;"⟩
theorem dJ1_toString_0 : decode cJ1_toString 0 = .ok (.new 18, 3) := by decide +kernel
theorem dJ1_toString_3 : decode cJ1_toString 3 = .ok (.dup, 1) := by decide +kernel
theorem dJ1_toString_4 : decode cJ1_toString 4 = .ok (.aload_n 0, 1) := by decide +kernel
theorem dJ1_toString_5 : decode cJ1_toString 5 = .ok (.invokespecial 137, 3) := by decide +kernel
theorem dJ1_toString_8 : decode cJ1_toString 8 = .ok (.areturn, 1) := by decide +kernel
abbrev MJ1_toString : zT := (yJ1_toString, cJ1_toString, 1, (Option.some (Jvm.ClassFile.FieldType.object "java/lang/String")), [])
theorem plJ1_toString : zplain MJ1_toString 0 ∧ (zcodeW MJ1_toString ∈ lw_all ∧ Cond.initialized MJ1_toString.1.cls ∈ lw_all) := ⟨⟨by decide +kernel, by decide +kernel⟩, q584, q103⟩
noncomputable def f_J1_toString (x0 : Int) (σ : zM) : Option zO :=
  (znO σ 21 4).bind fun σ1 =>
  zlet ((↑(zN σ) : Int)) fun y2 =>
  zgd (decide (0 ≤ y2)) <|
  zcv (f_J2_init y2 x0 σ1) fun σ3 =>
  some (0, zr y2, σ3)
theorem c_J1_toString {g : zG} {lv : Nat} {x0 : Int} {σ : zM} {out : zO} (h : f_J1_toString x0 σ = some out) : Cj g (lv + 5) MJ1_toString [zr x0] σ out := by
  refine cj_go (ls := [(0, zr x0)]) (by decide) (Nat.le_of_ble_eq_true rfl) rfl (zgen h (fun r hk => ?_))
  unfold f_J1_toString
  refine gb_new (pc := 0) (ci := 21) (c := (RJ2, TJ2, 4)) rfl (by decide) dJ1_toString_0 q585 q586 q104 (fun σ1 => ?_)
  refine gb_let (fun y2 => ?_)
  refine zst_ (gj_dup (pc := 3) dJ1_toString_3 rfl) ?_
  refine zst_ (gj_aload_n 0 (pc := 4) dJ1_toString_4 rfl) ?_
  refine gb_gd (fun hb => ?_)
  refine gb_callV (pc := 5) (as := [zr y2, zr x0]) (rest := [zr y2]) (zCl.of (zLk_I (M := MJ1_toString) plJ2_init.1 rfl (of_decide_eq_true hb) rfl rfl dJ1_toString_5 q587 q588 q589) plJ2_init (Nat.le_of_ble_eq_true rfl) (fun h => c_J2_init h)) (fun σ3 => ?_)
  intro h
  cases h
  have hk : (0, zr y2, σ3) = out := hk
  subst hk
  exact gj_aret (pc := 8) dJ1_toString_8 rfl (Or.inl ⟨_, rfl⟩)
theorem q118 : (Jvm.Cond.initialized "jdk/internal/util/ArraysSupport") ∈ lw_all := lw_g (lw_at lw_m1 18 rfl) rfl
theorem q461 : (Jvm.Cond.constant "jdk/internal/util/ArraysSupport" (200 : Nat) (2147483639 : Int32)) ∈ lw_all := lw_g (lw_at lw_m2 121 rfl) rfl
theorem q464 : (Jvm.Cond.code ({ cls := "jdk/internal/util/ArraysSupport", name := "hugeLength", desc := "(II)I" } : Jvm.MethodName) prog_54_method_28_code (3 : Nat) (Option.some Jvm.ClassFile.FieldType.int)) ∈ lw_all := lw_g (lw_at lw_m2 124 rfl) rfl
abbrev cJ11_hugeLength : ByteArray := prog_54_method_28_code
def yJ11_hugeLength : MethodName := ⟨RJ11, "hugeLength", "(II)I"⟩
theorem dJ11_hugeLength_0 : decode cJ11_hugeLength 0 = .ok (.iload_n 0, 1) := by decide +kernel
theorem dJ11_hugeLength_1 : decode cJ11_hugeLength 1 = .ok (.iload_n 1, 1) := by decide +kernel
theorem dJ11_hugeLength_2 : decode cJ11_hugeLength 2 = .ok (.iadd, 1) := by decide +kernel
theorem dJ11_hugeLength_3 : decode cJ11_hugeLength 3 = .ok (.istore_n 2, 1) := by decide +kernel
theorem dJ11_hugeLength_4 : decode cJ11_hugeLength 4 = .ok (.iload_n 2, 1) := by decide +kernel
theorem dJ11_hugeLength_5 : decode cJ11_hugeLength 5 = .ok (.ifCond .ge 44, 3) := by decide +kernel
theorem dJ11_hugeLength_8 : decode cJ11_hugeLength 8 = .ok (.new 204, 3) := by decide +kernel
theorem dJ11_hugeLength_11 : decode cJ11_hugeLength 11 = .ok (.dup, 1) := by decide +kernel
theorem dJ11_hugeLength_12 : decode cJ11_hugeLength 12 = .ok (.new 89, 3) := by decide +kernel
theorem dJ11_hugeLength_15 : decode cJ11_hugeLength 15 = .ok (.dup, 1) := by decide +kernel
theorem dJ11_hugeLength_16 : decode cJ11_hugeLength 16 = .ok (.invokespecial 91, 3) := by decide +kernel
theorem dJ11_hugeLength_19 : decode cJ11_hugeLength 19 = .ok (.ldc 206, 2) := by decide +kernel
theorem dJ11_hugeLength_21 : decode cJ11_hugeLength 21 = .ok (.invokevirtual 94, 3) := by decide +kernel
theorem dJ11_hugeLength_24 : decode cJ11_hugeLength 24 = .ok (.iload_n 0, 1) := by decide +kernel
theorem dJ11_hugeLength_25 : decode cJ11_hugeLength 25 = .ok (.invokevirtual 98, 3) := by decide +kernel
theorem dJ11_hugeLength_28 : decode cJ11_hugeLength 28 = .ok (.ldc 208, 2) := by decide +kernel
theorem dJ11_hugeLength_30 : decode cJ11_hugeLength 30 = .ok (.invokevirtual 94, 3) := by decide +kernel
theorem dJ11_hugeLength_33 : decode cJ11_hugeLength 33 = .ok (.iload_n 1, 1) := by decide +kernel
theorem dJ11_hugeLength_34 : decode cJ11_hugeLength 34 = .ok (.invokevirtual 98, 3) := by decide +kernel
theorem dJ11_hugeLength_37 : decode cJ11_hugeLength 37 = .ok (.ldc 210, 2) := by decide +kernel
theorem dJ11_hugeLength_39 : decode cJ11_hugeLength 39 = .ok (.invokevirtual 94, 3) := by decide +kernel
theorem dJ11_hugeLength_42 : decode cJ11_hugeLength 42 = .ok (.invokevirtual 101, 3) := by decide +kernel
theorem dJ11_hugeLength_45 : decode cJ11_hugeLength 45 = .ok (.invokespecial 212, 3) := by decide +kernel
theorem dJ11_hugeLength_48 : decode cJ11_hugeLength 48 = .ok (.athrow, 1) := by decide +kernel
theorem dJ11_hugeLength_49 : decode cJ11_hugeLength 49 = .ok (.iload_n 2, 1) := by decide +kernel
theorem dJ11_hugeLength_50 : decode cJ11_hugeLength 50 = .ok (.ldc 200, 2) := by decide +kernel
theorem dJ11_hugeLength_52 : decode cJ11_hugeLength 52 = .ok (.if_icmp .gt 6, 3) := by decide +kernel
theorem dJ11_hugeLength_55 : decode cJ11_hugeLength 55 = .ok (.ldc 200, 2) := by decide +kernel
theorem dJ11_hugeLength_57 : decode cJ11_hugeLength 57 = .ok (.ireturn, 1) := by decide +kernel
theorem dJ11_hugeLength_58 : decode cJ11_hugeLength 58 = .ok (.iload_n 2, 1) := by decide +kernel
theorem dJ11_hugeLength_59 : decode cJ11_hugeLength 59 = .ok (.ireturn, 1) := by decide +kernel
abbrev MJ11_hugeLength : zT := (yJ11_hugeLength, cJ11_hugeLength, 3, (Option.some Jvm.ClassFile.FieldType.int), [])
theorem plJ11_hugeLength : zplain MJ11_hugeLength 2 ∧ (zcodeW MJ11_hugeLength ∈ lw_all ∧ Cond.initialized MJ11_hugeLength.1.cls ∈ lw_all) := ⟨⟨by decide +kernel, by decide +kernel⟩, q464, q118⟩
noncomputable def f_J11_hugeLength (x0 x1 : Int) (σ : zM) : Option zO :=
  zlet ((zadd x0 x1)) fun y1 =>
  if 0 ≤ y1 then
    if 2147483639 < y1 then
      some (0, zi y1, σ)
    else
      some (0, zi 2147483639, σ)
  else
    none
theorem c_J11_hugeLength {g : zG} {lv : Nat} {x0 x1 : Int} {σ : zM} {out : zO} (h : f_J11_hugeLength x0 x1 σ = some out) : Cj g (lv) MJ11_hugeLength [zi x0, zi x1] σ out := by
  refine cj_go (ls := [(0, zi x0), (1, zi x1)]) (by decide) (Nat.le_of_ble_eq_true rfl) rfl (zgen h (fun r hk => ?_))
  unfold f_J11_hugeLength
  refine zst_ (gj_iload_n 0 (pc := 0) dJ11_hugeLength_0 rfl) ?_
  refine zst_ (gj_iload_n 1 (pc := 1) dJ11_hugeLength_1 rfl) ?_
  refine zst_ (gj_iadd (pc := 2) dJ11_hugeLength_2) ?_
  refine gb_let (fun y1 => ?_)
  refine zst_ (gj_istore_n (pc := 3) (ls' := [(2, zi y1), (0, zi x0), (1, zi x1)]) dJ11_hugeLength_3 (by decide) rfl) ?_
  refine zst_ (gj_iload_n 0 (pc := 4) dJ11_hugeLength_4 rfl) ?_
  refine gb_if (gj_if_ge 49 (pc := 5) dJ11_hugeLength_5 (by decide)) ?_ ?_
  · refine zst_ (gj_iload_n 0 (pc := 49) dJ11_hugeLength_49 rfl) ?_
    refine zst_ (gj_ldc (pc := 50) (a := 2147483639) dJ11_hugeLength_50 q461 (by decide +kernel)) ?_
    refine gb_if (gj_icmp_gt 58 (pc := 52) dJ11_hugeLength_52 (by decide)) ?_ ?_
    · refine zst_ (gj_iload_n 0 (pc := 58) dJ11_hugeLength_58 rfl) ?_
      intro h
      cases h
      have hk : (0, zi y1, σ) = out := hk
      subst hk
      exact gj_ret (pc := 59) (t := .int) dJ11_hugeLength_59 rfl ⟨rfl, rfl⟩ (fun h => h)
    · refine zst_ (gj_ldc (pc := 55) (a := 2147483639) dJ11_hugeLength_55 q461 (by decide +kernel)) ?_
      intro h
      cases h
      have hk : (0, zi 2147483639, σ) = out := hk
      subst hk
      exact gj_ret (pc := 57) (t := .int) dJ11_hugeLength_57 rfl ⟨rfl, rfl⟩ (fun h => h)
  · exact (fun h => by cases h)
theorem q457 : (Jvm.Cond.code ({ cls := "jdk/internal/util/ArraysSupport", name := "newLength", desc := "(III)I" } : Jvm.MethodName) prog_54_method_27_code (4 : Nat) (Option.some Jvm.ClassFile.FieldType.int)) ∈ lw_all := lw_g (lw_at lw_m2 117 rfl) rfl
theorem q458 : (Jvm.Cond.methodLink "jdk/internal/util/ArraysSupport" (194 : Nat) ({ cls := "java/lang/Math", name := "max", desc := "(II)I" } : Jvm.MethodName)) ∈ lw_all := lw_g (lw_at lw_m2 118 rfl) rfl
theorem q459 : (Jvm.Cond.static ({ cls := "java/lang/Math", name := "max", desc := "(II)I" } : Jvm.MethodName)) ∈ lw_all := lw_g (lw_at lw_m2 119 rfl) rfl
theorem q460 : (Jvm.Cond.code ({ cls := "java/lang/Math", name := "max", desc := "(II)I" } : Jvm.MethodName) prog_34_method_65_code (2 : Nat) (Option.some Jvm.ClassFile.FieldType.int)) ∈ lw_all := lw_g (lw_at lw_m2 120 rfl) rfl
theorem q462 : (Jvm.Cond.methodLink "jdk/internal/util/ArraysSupport" (201 : Nat) ({ cls := "jdk/internal/util/ArraysSupport", name := "hugeLength", desc := "(II)I" } : Jvm.MethodName)) ∈ lw_all := lw_g (lw_at lw_m2 122 rfl) rfl
theorem q463 : (Jvm.Cond.static ({ cls := "jdk/internal/util/ArraysSupport", name := "hugeLength", desc := "(II)I" } : Jvm.MethodName)) ∈ lw_all := lw_g (lw_at lw_m2 123 rfl) rfl
abbrev cJ11_newLength : ByteArray := prog_54_method_27_code
def yJ11_newLength : MethodName := ⟨RJ11, "newLength", "(III)I"⟩
theorem dJ11_newLength_0 : decode cJ11_newLength 0 = .ok (.iload_n 0, 1) := by decide +kernel
theorem dJ11_newLength_1 : decode cJ11_newLength 1 = .ok (.iload_n 1, 1) := by decide +kernel
theorem dJ11_newLength_2 : decode cJ11_newLength 2 = .ok (.iload_n 2, 1) := by decide +kernel
theorem dJ11_newLength_3 : decode cJ11_newLength 3 = .ok (.invokestatic 194, 3) := by decide +kernel
theorem dJ11_newLength_6 : decode cJ11_newLength 6 = .ok (.iadd, 1) := by decide +kernel
theorem dJ11_newLength_7 : decode cJ11_newLength 7 = .ok (.istore_n 3, 1) := by decide +kernel
theorem dJ11_newLength_8 : decode cJ11_newLength 8 = .ok (.iconst 0, 1) := by decide +kernel
theorem dJ11_newLength_9 : decode cJ11_newLength 9 = .ok (.iload_n 3, 1) := by decide +kernel
theorem dJ11_newLength_10 : decode cJ11_newLength 10 = .ok (.if_icmp .ge 11, 3) := by decide +kernel
theorem dJ11_newLength_13 : decode cJ11_newLength 13 = .ok (.iload_n 3, 1) := by decide +kernel
theorem dJ11_newLength_14 : decode cJ11_newLength 14 = .ok (.ldc 200, 2) := by decide +kernel
theorem dJ11_newLength_16 : decode cJ11_newLength 16 = .ok (.if_icmp .gt 5, 3) := by decide +kernel
theorem dJ11_newLength_19 : decode cJ11_newLength 19 = .ok (.iload_n 3, 1) := by decide +kernel
theorem dJ11_newLength_20 : decode cJ11_newLength 20 = .ok (.ireturn, 1) := by decide +kernel
theorem dJ11_newLength_21 : decode cJ11_newLength 21 = .ok (.iload_n 0, 1) := by decide +kernel
theorem dJ11_newLength_22 : decode cJ11_newLength 22 = .ok (.iload_n 1, 1) := by decide +kernel
theorem dJ11_newLength_23 : decode cJ11_newLength 23 = .ok (.invokestatic 201, 3) := by decide +kernel
theorem dJ11_newLength_26 : decode cJ11_newLength 26 = .ok (.ireturn, 1) := by decide +kernel
abbrev MJ11_newLength : zT := (yJ11_newLength, cJ11_newLength, 4, (Option.some Jvm.ClassFile.FieldType.int), [])
theorem plJ11_newLength : zplain MJ11_newLength 3 ∧ (zcodeW MJ11_newLength ∈ lw_all ∧ Cond.initialized MJ11_newLength.1.cls ∈ lw_all) := ⟨⟨by decide +kernel, by decide +kernel⟩, q457, q118⟩
noncomputable def f_J11_newLength_21 (x0 x1 : Int) (σ : zM) : Option zO :=
  zci (f_J11_hugeLength x0 x1 σ) fun v1 σ2 =>
  some (0, zi v1, σ2)
theorem w_J11_newLength_21 {g : zG} {lv : Nat} {out : zO} (x0 x1 : Int) (σ : zM) {r : zO} (h : f_J11_newLength_21 x0 x1 σ = some r) (hk : (fun o : zO => o = out) r) : Gj g MJ11_newLength (lv + 1) 21 [(0, zi x0), (1, zi x1)] [] σ out := by
  revert h
  unfold f_J11_newLength_21
  refine zst_ (gj_iload_n 0 (pc := 21) dJ11_newLength_21 rfl) ?_
  refine zst_ (gj_iload_n 1 (pc := 22) dJ11_newLength_22 rfl) ?_
  refine gb_callI (pc := 23) (as := [zi x0, zi x1]) (rest := []) (zCl.of (zLk_S (M := MJ11_newLength) plJ11_hugeLength.1 rfl dJ11_newLength_23 q462 q463 q118 q464) plJ11_hugeLength (Nat.le_of_ble_eq_true rfl) (fun h => c_J11_hugeLength h)) (fun v1 σ2 => ?_)
  intro h
  cases h
  have hk : (0, zi v1, σ2) = out := hk
  subst hk
  exact gj_ret (pc := 26) (t := .int) dJ11_newLength_26 rfl ⟨rfl, rfl⟩ (fun h => h)
noncomputable def f_J11_newLength (x0 x1 x2 : Int) (σ : zM) : Option zO :=
  zlet (if x1 < x2 then x2 else x1) fun y1 =>
  zlet ((zadd x0 y1)) fun y2 =>
  if y2 ≤ 0 then
    f_J11_newLength_21 x0 x1 σ
  else
    if 2147483639 < y2 then
      f_J11_newLength_21 x0 x1 σ
    else
      some (0, zi y2, σ)
theorem c_J11_newLength {g : zG} {lv : Nat} {x0 x1 x2 : Int} {σ : zM} {out : zO} (h : f_J11_newLength x0 x1 x2 σ = some out) : Cj g (lv + 1) MJ11_newLength [zi x0, zi x1, zi x2] σ out := by
  refine cj_go (ls := [(0, zi x0), (1, zi x1), (2, zi x2)]) (by decide) (Nat.le_of_ble_eq_true rfl) rfl (zgen h (fun r hk => ?_))
  unfold f_J11_newLength
  refine zst_ (gj_iload_n 0 (pc := 0) dJ11_newLength_0 rfl) ?_
  refine zst_ (gj_iload_n 1 (pc := 1) dJ11_newLength_1 rfl) ?_
  refine zst_ (gj_iload_n 2 (pc := 2) dJ11_newLength_2 rfl) ?_
  refine zst_ (gj_mmax (pc := 3) dJ11_newLength_3 q458 q459 q119 q460 (by omega) (Nat.le_of_ble_eq_true rfl)) ?_
  refine gb_let (fun y1 => ?_)
  refine zst_ (gj_iadd (pc := 6) dJ11_newLength_6) ?_
  refine gb_let (fun y2 => ?_)
  refine zst_ (gj_istore_n (pc := 7) (ls' := [(3, zi y2), (0, zi x0), (1, zi x1), (2, zi x2)]) dJ11_newLength_7 (by decide) rfl) ?_
  refine zst_ (gj_iconst (pc := 8) dJ11_newLength_8 (by decide)) ?_
  refine zst_ (gj_iload_n 0 (pc := 9) dJ11_newLength_9 rfl) ?_
  refine gb_if (gj_icmp_ge 21 (pc := 10) dJ11_newLength_10 (by decide)) ?_ ?_
  · refine zst_ (gj_sub [1, 2] rfl) ?_
    exact fun h => w_J11_newLength_21 x0 x1 σ h hk
  · refine zst_ (gj_iload_n 0 (pc := 13) dJ11_newLength_13 rfl) ?_
    refine zst_ (gj_ldc (pc := 14) (a := 2147483639) dJ11_newLength_14 q461 (by decide +kernel)) ?_
    refine gb_if (gj_icmp_gt 21 (pc := 16) dJ11_newLength_16 (by decide)) ?_ ?_
    · refine zst_ (gj_sub [1, 2] rfl) ?_
      exact fun h => w_J11_newLength_21 x0 x1 σ h hk
    · refine zst_ (gj_iload_n 0 (pc := 19) dJ11_newLength_19 rfl) ?_
      intro h
      cases h
      have hk : (0, zi y2, σ) = out := hk
      subst hk
      exact gj_ret (pc := 20) (t := .int) dJ11_newLength_20 rfl ⟨rfl, rfl⟩ (fun h => h)
theorem q454 : (Jvm.Cond.code ({ cls := "java/lang/AbstractStringBuilder", name := "newCapacity", desc := "(I)I" } : Jvm.MethodName) prog_24_method_10_code (6 : Nat) (Option.some Jvm.ClassFile.FieldType.int)) ∈ lw_all := lw_g (lw_at lw_m2 114 rfl) rfl
theorem q455 : (Jvm.Cond.methodLink "java/lang/AbstractStringBuilder" (114 : Nat) ({ cls := "jdk/internal/util/ArraysSupport", name := "newLength", desc := "(III)I" } : Jvm.MethodName)) ∈ lw_all := lw_g (lw_at lw_m2 115 rfl) rfl
theorem q456 : (Jvm.Cond.static ({ cls := "jdk/internal/util/ArraysSupport", name := "newLength", desc := "(III)I" } : Jvm.MethodName)) ∈ lw_all := lw_g (lw_at lw_m2 116 rfl) rfl
theorem q465 : (Jvm.Cond.constant "java/lang/AbstractStringBuilder" (39 : Nat) (2147483647 : Int32)) ∈ lw_all := lw_g (lw_at lw_m2 125 rfl) rfl
abbrev cJ0_newCapacity : ByteArray := prog_24_method_10_code
def yJ0_newCapacity : MethodName := ⟨RJ0, "newCapacity", "(I)I"⟩
theorem dJ0_newCapacity_0 : decode cJ0_newCapacity 0 = .ok (.aload_n 0, 1) := by decide +kernel
theorem dJ0_newCapacity_1 : decode cJ0_newCapacity 1 = .ok (.getfield 15, 3) := by decide +kernel
theorem dJ0_newCapacity_4 : decode cJ0_newCapacity 4 = .ok (.arraylength, 1) := by decide +kernel
theorem dJ0_newCapacity_5 : decode cJ0_newCapacity 5 = .ok (.istore_n 2, 1) := by decide +kernel
theorem dJ0_newCapacity_6 : decode cJ0_newCapacity 6 = .ok (.iload_n 1, 1) := by decide +kernel
theorem dJ0_newCapacity_7 : decode cJ0_newCapacity 7 = .ok (.aload_n 0, 1) := by decide +kernel
theorem dJ0_newCapacity_8 : decode cJ0_newCapacity 8 = .ok (.getfield 22, 3) := by decide +kernel
theorem dJ0_newCapacity_11 : decode cJ0_newCapacity 11 = .ok (.ishl, 1) := by decide +kernel
theorem dJ0_newCapacity_12 : decode cJ0_newCapacity 12 = .ok (.istore_n 3, 1) := by decide +kernel
theorem dJ0_newCapacity_13 : decode cJ0_newCapacity 13 = .ok (.iload_n 3, 1) := by decide +kernel
theorem dJ0_newCapacity_14 : decode cJ0_newCapacity 14 = .ok (.iload_n 2, 1) := by decide +kernel
theorem dJ0_newCapacity_15 : decode cJ0_newCapacity 15 = .ok (.isub, 1) := by decide +kernel
theorem dJ0_newCapacity_16 : decode cJ0_newCapacity 16 = .ok (.istore 4, 2) := by decide +kernel
theorem dJ0_newCapacity_18 : decode cJ0_newCapacity 18 = .ok (.iload_n 2, 1) := by decide +kernel
theorem dJ0_newCapacity_19 : decode cJ0_newCapacity 19 = .ok (.iload 4, 2) := by decide +kernel
theorem dJ0_newCapacity_21 : decode cJ0_newCapacity 21 = .ok (.iload_n 2, 1) := by decide +kernel
theorem dJ0_newCapacity_22 : decode cJ0_newCapacity 22 = .ok (.iconst 2, 1) := by decide +kernel
theorem dJ0_newCapacity_23 : decode cJ0_newCapacity 23 = .ok (.aload_n 0, 1) := by decide +kernel
theorem dJ0_newCapacity_24 : decode cJ0_newCapacity 24 = .ok (.getfield 22, 3) := by decide +kernel
theorem dJ0_newCapacity_27 : decode cJ0_newCapacity 27 = .ok (.ishl, 1) := by decide +kernel
theorem dJ0_newCapacity_28 : decode cJ0_newCapacity 28 = .ok (.iadd, 1) := by decide +kernel
theorem dJ0_newCapacity_29 : decode cJ0_newCapacity 29 = .ok (.invokestatic 114, 3) := by decide +kernel
theorem dJ0_newCapacity_32 : decode cJ0_newCapacity 32 = .ok (.istore 5, 2) := by decide +kernel
theorem dJ0_newCapacity_34 : decode cJ0_newCapacity 34 = .ok (.iload 5, 2) := by decide +kernel
theorem dJ0_newCapacity_36 : decode cJ0_newCapacity 36 = .ok (.ldc 39, 2) := by decide +kernel
theorem dJ0_newCapacity_38 : decode cJ0_newCapacity 38 = .ok (.if_icmp .ne 13, 3) := by decide +kernel
theorem dJ0_newCapacity_41 : decode cJ0_newCapacity 41 = .ok (.new 120, 3) := by decide +kernel
theorem dJ0_newCapacity_44 : decode cJ0_newCapacity 44 = .ok (.dup, 1) := by decide +kernel
theorem dJ0_newCapacity_45 : decode cJ0_newCapacity 45 = .ok (.ldc 122, 2) := by decide +kernel
theorem dJ0_newCapacity_47 : decode cJ0_newCapacity 47 = .ok (.invokespecial 124, 3) := by decide +kernel
theorem dJ0_newCapacity_50 : decode cJ0_newCapacity 50 = .ok (.athrow, 1) := by decide +kernel
theorem dJ0_newCapacity_51 : decode cJ0_newCapacity 51 = .ok (.iload 5, 2) := by decide +kernel
theorem dJ0_newCapacity_53 : decode cJ0_newCapacity 53 = .ok (.aload_n 0, 1) := by decide +kernel
theorem dJ0_newCapacity_54 : decode cJ0_newCapacity 54 = .ok (.getfield 22, 3) := by decide +kernel
theorem dJ0_newCapacity_57 : decode cJ0_newCapacity 57 = .ok (.ishr, 1) := by decide +kernel
theorem dJ0_newCapacity_58 : decode cJ0_newCapacity 58 = .ok (.ireturn, 1) := by decide +kernel
abbrev MJ0_newCapacity : zT := (yJ0_newCapacity, cJ0_newCapacity, 6, (Option.some Jvm.ClassFile.FieldType.int), [])
theorem plJ0_newCapacity : zplain MJ0_newCapacity 1 ∧ (zcodeW MJ0_newCapacity ∈ lw_all ∧ Cond.initialized MJ0_newCapacity.1.cls ∈ lw_all) := ⟨⟨by decide +kernel, by decide +kernel⟩, q454, q102⟩
noncomputable def f_J0_newCapacity (x0 x1 : Int) (σ : zM) : Option zO :=
  (zgf σ 2000 x0).bind fun v1 =>
  (zla σ 104 v1).bind fun v2 =>
  (zgf σ 2001 x0).bind fun v3 =>
  zlet ((zshl x1 v3)) fun y4 =>
  zlet ((zsub y4 v2)) fun y5 =>
  (zgf σ 2001 x0).bind fun v6 =>
  zci (f_J11_newLength v2 y5 (zadd v2 (zshl 2 v6)) σ) fun v7 σ8 =>
  if v7 ≠ 2147483647 then
    (zgf σ8 2001 x0).bind fun v9 =>
    some (0, zi (zshr v7 v9), σ8)
  else
    none
theorem c_J0_newCapacity {g : zG} {lv : Nat} {x0 x1 : Int} {σ : zM} {out : zO} (h : f_J0_newCapacity x0 x1 σ = some out) : Cj g (lv + 2) MJ0_newCapacity [zr x0, zi x1] σ out := by
  refine cj_go (ls := [(0, zr x0), (1, zi x1)]) (by decide) (Nat.le_of_ble_eq_true rfl) rfl (zgen h (fun r hk => ?_))
  unfold f_J0_newCapacity
  refine zst_ (gj_aload_n 0 (pc := 0) dJ0_newCapacity_0 rfl) ?_
  refine gb_get (pc := 1) fl2000 dJ0_newCapacity_1 q172 (Or.inl rfl) (fun v1 => ?_)
  refine gb_alen (pc := 4) (k := 104) (by decide) dJ0_newCapacity_4 (fun v2 => ?_)
  refine zst_ (gj_istore_n (pc := 5) (ls' := [(2, zi v2), (0, zr x0), (1, zi x1)]) dJ0_newCapacity_5 (by decide) rfl) ?_
  refine zst_ (gj_iload_n 2 (pc := 6) dJ0_newCapacity_6 rfl) ?_
  refine zst_ (gj_aload_n 1 (pc := 7) dJ0_newCapacity_7 rfl) ?_
  refine gb_get (pc := 8) fl2001 dJ0_newCapacity_8 q173 (Or.inl rfl) (fun v3 => ?_)
  refine zst_ (gj_ishl (pc := 11) dJ0_newCapacity_11) ?_
  refine gb_let (fun y4 => ?_)
  refine zst_ (gj_istore_n (pc := 12) (ls' := [(3, zi y4), (2, zi v2), (0, zr x0), (1, zi x1)]) dJ0_newCapacity_12 (by decide) rfl) ?_
  refine zst_ (gj_iload_n 0 (pc := 13) dJ0_newCapacity_13 rfl) ?_
  refine zst_ (gj_iload_n 1 (pc := 14) dJ0_newCapacity_14 rfl) ?_
  refine zst_ (gj_isub (pc := 15) dJ0_newCapacity_15) ?_
  refine gb_let (fun y5 => ?_)
  refine zst_ (gj_istore (pc := 16) (ls' := [(4, zi y5), (3, zi y4), (2, zi v2), (0, zr x0), (1, zi x1)]) dJ0_newCapacity_16 (by decide) rfl) ?_
  refine zst_ (gj_iload_n 2 (pc := 18) dJ0_newCapacity_18 rfl) ?_
  refine zst_ (gj_iload 0 (pc := 19) dJ0_newCapacity_19 rfl) ?_
  refine zst_ (gj_iload_n 2 (pc := 21) dJ0_newCapacity_21 rfl) ?_
  refine zst_ (gj_iconst (pc := 22) dJ0_newCapacity_22 (by decide)) ?_
  refine zst_ (gj_aload_n 3 (pc := 23) dJ0_newCapacity_23 rfl) ?_
  refine gb_get (pc := 24) fl2001 dJ0_newCapacity_24 q173 (Or.inl rfl) (fun v6 => ?_)
  refine zst_ (gj_ishl (pc := 27) dJ0_newCapacity_27) ?_
  refine zst_ (gj_iadd (pc := 28) dJ0_newCapacity_28) ?_
  refine gb_callI (pc := 29) (as := [zi v2, zi y5, zi (zadd v2 (zshl 2 v6))]) (rest := []) (zCl.of (zLk_S (M := MJ0_newCapacity) plJ11_newLength.1 rfl dJ0_newCapacity_29 q455 q456 q118 q457) plJ11_newLength (Nat.le_of_ble_eq_true rfl) (fun h => c_J11_newLength h)) (fun v7 σ8 => ?_)
  refine zst_ (gj_istore (pc := 32) (ls' := [(5, zi v7), (4, zi y5), (3, zi y4), (2, zi v2), (0, zr x0), (1, zi x1)]) dJ0_newCapacity_32 (by decide) rfl) ?_
  refine zst_ (gj_iload 0 (pc := 34) dJ0_newCapacity_34 rfl) ?_
  refine zst_ (gj_ldc (pc := 36) (a := 2147483647) dJ0_newCapacity_36 q465 (by decide +kernel)) ?_
  refine gb_if (gj_icmp_ne 51 (pc := 38) dJ0_newCapacity_38 (by decide)) ?_ ?_
  · refine zst_ (gj_iload 0 (pc := 51) dJ0_newCapacity_51 rfl) ?_
    refine zst_ (gj_aload_n 4 (pc := 53) dJ0_newCapacity_53 rfl) ?_
    refine gb_get (pc := 54) fl2001 dJ0_newCapacity_54 q173 (Or.inl rfl) (fun v9 => ?_)
    refine zst_ (gj_ishr (pc := 57) dJ0_newCapacity_57) ?_
    intro h
    cases h
    have hk : (0, zi (zshr v7 v9), σ8) = out := hk
    subst hk
    exact gj_ret (pc := 58) (t := .int) dJ0_newCapacity_58 rfl ⟨rfl, rfl⟩ (fun h => h)
  · exact (fun h => by cases h)
theorem q468 : (Jvm.Cond.code ({ cls := "java/util/Arrays", name := "copyOf", desc := "([BI)[B" } : Jvm.MethodName) prog_48_method_121_code (3 : Nat) (Option.some (Jvm.ClassFile.FieldType.array Jvm.ClassFile.FieldType.byte))) ∈ lw_all := lw_g (lw_at lw_m2 128 rfl) rfl
abbrev cJ13_copyOf : ByteArray := prog_48_method_121_code
def yJ13_copyOf : MethodName := ⟨RJ13, "copyOf", "([BI)[B"⟩
theorem dJ13_copyOf_0 : decode cJ13_copyOf 0 = .ok (.iload_n 1, 1) := by decide +kernel
theorem dJ13_copyOf_1 : decode cJ13_copyOf 1 = .ok (.aload_n 0, 1) := by decide +kernel
theorem dJ13_copyOf_2 : decode cJ13_copyOf 2 = .ok (.arraylength, 1) := by decide +kernel
theorem dJ13_copyOf_3 : decode cJ13_copyOf 3 = .ok (.if_icmp .ne 11, 3) := by decide +kernel
theorem dJ13_copyOf_6 : decode cJ13_copyOf 6 = .ok (.aload_n 0, 1) := by decide +kernel
theorem dJ13_copyOf_7 : decode cJ13_copyOf 7 = .ok (.invokevirtual 310, 3) := by decide +kernel
theorem dJ13_copyOf_10 : decode cJ13_copyOf 10 = .ok (.checkcast 311, 3) := by decide +kernel
theorem dJ13_copyOf_13 : decode cJ13_copyOf 13 = .ok (.areturn, 1) := by decide +kernel
theorem dJ13_copyOf_14 : decode cJ13_copyOf 14 = .ok (.iload_n 1, 1) := by decide +kernel
theorem dJ13_copyOf_15 : decode cJ13_copyOf 15 = .ok (.newarray .byte, 2) := by decide +kernel
theorem dJ13_copyOf_17 : decode cJ13_copyOf 17 = .ok (.astore_n 2, 1) := by decide +kernel
theorem dJ13_copyOf_18 : decode cJ13_copyOf 18 = .ok (.aload_n 0, 1) := by decide +kernel
theorem dJ13_copyOf_19 : decode cJ13_copyOf 19 = .ok (.iconst 0, 1) := by decide +kernel
theorem dJ13_copyOf_20 : decode cJ13_copyOf 20 = .ok (.aload_n 2, 1) := by decide +kernel
theorem dJ13_copyOf_21 : decode cJ13_copyOf 21 = .ok (.iconst 0, 1) := by decide +kernel
theorem dJ13_copyOf_22 : decode cJ13_copyOf 22 = .ok (.aload_n 0, 1) := by decide +kernel
theorem dJ13_copyOf_23 : decode cJ13_copyOf 23 = .ok (.arraylength, 1) := by decide +kernel
theorem dJ13_copyOf_24 : decode cJ13_copyOf 24 = .ok (.iload_n 1, 1) := by decide +kernel
theorem dJ13_copyOf_25 : decode cJ13_copyOf 25 = .ok (.invokestatic 304, 3) := by decide +kernel
theorem dJ13_copyOf_28 : decode cJ13_copyOf 28 = .ok (.invokestatic 150, 3) := by decide +kernel
theorem dJ13_copyOf_31 : decode cJ13_copyOf 31 = .ok (.aload_n 2, 1) := by decide +kernel
theorem dJ13_copyOf_32 : decode cJ13_copyOf 32 = .ok (.areturn, 1) := by decide +kernel
abbrev MJ13_copyOf : zT := (yJ13_copyOf, cJ13_copyOf, 3, (Option.some (Jvm.ClassFile.FieldType.array Jvm.ClassFile.FieldType.byte)), [])
theorem plJ13_copyOf : zplain MJ13_copyOf 2 ∧ (zcodeW MJ13_copyOf ∈ lw_all ∧ Cond.initialized MJ13_copyOf.1.cls ∈ lw_all) := ⟨⟨by decide +kernel, by decide +kernel⟩, q468, q120⟩
noncomputable def f_J13_copyOf (x0 x1 : Int) (σ : zM) : Option zO :=
  (zla σ 104 x0).bind fun v1 =>
  if x1 ≠ v1 then
    (znA σ 104 x1).bind fun σ2 =>
    zlet ((↑(zN σ) : Int)) fun y3 =>
    (zla σ2 104 x0).bind fun v4 =>
    zlet (if x1 < v4 then x1 else v4) fun y5 =>
    (zcp σ2 104 x0 0 y3 0 y5).bind fun σ6 =>
    some (0, zr y3, σ6)
  else
    (zcln σ x0).bind fun σ7 =>
    zlet ((↑(zN σ) : Int)) fun y8 =>
    zgd (zis σ7 104 y8) <|
    some (0, zr y8, σ7)
theorem c_J13_copyOf {g : zG} {lv : Nat} {x0 x1 : Int} {σ : zM} {out : zO} (h : f_J13_copyOf x0 x1 σ = some out) : Cj g (lv + 1) MJ13_copyOf [zr x0, zi x1] σ out := by
  refine cj_go (ls := [(0, zr x0), (1, zi x1)]) (by decide) (Nat.le_of_ble_eq_true rfl) rfl (zgen h (fun r hk => ?_))
  unfold f_J13_copyOf
  refine zst_ (gj_iload_n 1 (pc := 0) dJ13_copyOf_0 rfl) ?_
  refine zst_ (gj_aload_n 0 (pc := 1) dJ13_copyOf_1 rfl) ?_
  refine gb_alen (pc := 2) (k := 104) (by decide) dJ13_copyOf_2 (fun v1 => ?_)
  refine gb_if (gj_icmp_ne 14 (pc := 3) dJ13_copyOf_3 (by decide)) ?_ ?_
  · refine zst_ (gj_iload_n 1 (pc := 14) dJ13_copyOf_14 rfl) ?_
    refine gb_newa (pc := 15) (k := 104) ⟨by decide, by decide⟩ rfl dJ13_copyOf_15 q186 (fun σ2 => ?_)
    refine gb_let (fun y3 => ?_)
    refine zst_ (gj_astore_n (pc := 17) (ls' := [(2, zr y3), (0, zr x0), (1, zi x1)]) dJ13_copyOf_17 (by decide) rfl) ?_
    refine zst_ (gj_aload_n 1 (pc := 18) dJ13_copyOf_18 rfl) ?_
    refine zst_ (gj_iconst (pc := 19) dJ13_copyOf_19 (by decide)) ?_
    refine zst_ (gj_aload_n 0 (pc := 20) dJ13_copyOf_20 rfl) ?_
    refine zst_ (gj_iconst (pc := 21) dJ13_copyOf_21 (by decide)) ?_
    refine zst_ (gj_aload_n 1 (pc := 22) dJ13_copyOf_22 rfl) ?_
    refine gb_alen (pc := 23) (k := 104) (by decide) dJ13_copyOf_23 (fun v4 => ?_)
    refine zst_ (gj_iload_n 2 (pc := 24) dJ13_copyOf_24 rfl) ?_
    refine zst_ (gj_mmin (pc := 25) dJ13_copyOf_25 q476 q477 q119 q478 (by omega) (Nat.le_of_ble_eq_true rfl)) ?_
    refine gb_let (fun y5 => ?_)
    refine gb_acopy (pc := 28) (k := 104) (Or.inl rfl) (by omega) (Nat.le_of_ble_eq_true rfl) dJ13_copyOf_28 q479 q481 q480 q121 (fun σ6 => ?_)
    refine zst_ (gj_aload_n 0 (pc := 31) dJ13_copyOf_31 rfl) ?_
    intro h
    cases h
    have hk : (0, zr y3, σ6) = out := hk
    subst hk
    exact gj_aret (pc := 32) dJ13_copyOf_32 rfl (Or.inr ⟨_, rfl⟩)
  · refine zst_ (gj_aload_n 0 (pc := 6) dJ13_copyOf_6 rfl) ?_
    refine gb_clone (pc := 7) (by omega) (Nat.le_of_ble_eq_true rfl) dJ13_copyOf_7 q469 q470 q471 q472 q473 q474 (fun σ7 => ?_)
    refine gb_let (fun y8 => ?_)
    refine gb_gd (fun hb => ?_)
    refine zst_ (gj_castA (pc := 10) (k := 104) ⟨by decide, by decide⟩ (fun U cA h => h) (zisE hb).1 (zisE hb).2 dJ13_copyOf_10 q475) ?_
    intro h
    cases h
    have hk : (0, zr y8, σ7) = out := hk
    subst hk
    exact gj_aret (pc := 13) dJ13_copyOf_13 rfl (Or.inr ⟨_, rfl⟩)
theorem q450 : (Jvm.Cond.code ({ cls := "java/lang/AbstractStringBuilder", name := "ensureCapacityInternal", desc := "(I)V" } : Jvm.MethodName) prog_24_method_9_code (3 : Nat) (Option.none : Option Jvm.ClassFile.FieldType)) ∈ lw_all := lw_g (lw_at lw_m2 110 rfl) rfl
theorem q451 : (Jvm.Cond.methodLink "java/lang/AbstractStringBuilder" (104 : Nat) ({ cls := "java/lang/AbstractStringBuilder", name := "newCapacity", desc := "(I)I" } : Jvm.MethodName)) ∈ lw_all := lw_g (lw_at lw_m2 111 rfl) rfl
theorem q452 : (Jvm.Cond.privateMethod ({ cls := "java/lang/AbstractStringBuilder", name := "newCapacity", desc := "(I)I" } : Jvm.MethodName)) ∈ lw_tbl := lw_at lw_m2 112 rfl
theorem q453 : (Jvm.Cond.instanceMethod ({ cls := "java/lang/AbstractStringBuilder", name := "newCapacity", desc := "(I)I" } : Jvm.MethodName)) ∈ lw_all := lw_g (lw_at lw_m2 113 rfl) rfl
theorem q466 : (Jvm.Cond.methodLink "java/lang/AbstractStringBuilder" (108 : Nat) ({ cls := "java/util/Arrays", name := "copyOf", desc := "([BI)[B" } : Jvm.MethodName)) ∈ lw_all := lw_g (lw_at lw_m2 126 rfl) rfl
theorem q467 : (Jvm.Cond.static ({ cls := "java/util/Arrays", name := "copyOf", desc := "([BI)[B" } : Jvm.MethodName)) ∈ lw_all := lw_g (lw_at lw_m2 127 rfl) rfl
abbrev cJ0_ensureCapacityInternal : ByteArray := prog_24_method_9_code
def yJ0_ensureCapacityInternal : MethodName := ⟨RJ0, "ensureCapacityInternal", "(I)V"⟩
theorem dJ0_ensureCapacityInternal_0 : decode cJ0_ensureCapacityInternal 0 = .ok (.aload_n 0, 1) := by decide +kernel
theorem dJ0_ensureCapacityInternal_1 : decode cJ0_ensureCapacityInternal 1 = .ok (.getfield 15, 3) := by decide +kernel
theorem dJ0_ensureCapacityInternal_4 : decode cJ0_ensureCapacityInternal 4 = .ok (.arraylength, 1) := by decide +kernel
theorem dJ0_ensureCapacityInternal_5 : decode cJ0_ensureCapacityInternal 5 = .ok (.aload_n 0, 1) := by decide +kernel
theorem dJ0_ensureCapacityInternal_6 : decode cJ0_ensureCapacityInternal 6 = .ok (.getfield 22, 3) := by decide +kernel
theorem dJ0_ensureCapacityInternal_9 : decode cJ0_ensureCapacityInternal 9 = .ok (.ishr, 1) := by decide +kernel
theorem dJ0_ensureCapacityInternal_10 : decode cJ0_ensureCapacityInternal 10 = .ok (.istore_n 2, 1) := by decide +kernel
theorem dJ0_ensureCapacityInternal_11 : decode cJ0_ensureCapacityInternal 11 = .ok (.iload_n 1, 1) := by decide +kernel
theorem dJ0_ensureCapacityInternal_12 : decode cJ0_ensureCapacityInternal 12 = .ok (.iload_n 2, 1) := by decide +kernel
theorem dJ0_ensureCapacityInternal_13 : decode cJ0_ensureCapacityInternal 13 = .ok (.isub, 1) := by decide +kernel
theorem dJ0_ensureCapacityInternal_14 : decode cJ0_ensureCapacityInternal 14 = .ok (.ifCond .le 24, 3) := by decide +kernel
theorem dJ0_ensureCapacityInternal_17 : decode cJ0_ensureCapacityInternal 17 = .ok (.aload_n 0, 1) := by decide +kernel
theorem dJ0_ensureCapacityInternal_18 : decode cJ0_ensureCapacityInternal 18 = .ok (.aload_n 0, 1) := by decide +kernel
theorem dJ0_ensureCapacityInternal_19 : decode cJ0_ensureCapacityInternal 19 = .ok (.getfield 15, 3) := by decide +kernel
theorem dJ0_ensureCapacityInternal_22 : decode cJ0_ensureCapacityInternal 22 = .ok (.aload_n 0, 1) := by decide +kernel
theorem dJ0_ensureCapacityInternal_23 : decode cJ0_ensureCapacityInternal 23 = .ok (.iload_n 1, 1) := by decide +kernel
theorem dJ0_ensureCapacityInternal_24 : decode cJ0_ensureCapacityInternal 24 = .ok (.invokevirtual 104, 3) := by decide +kernel
theorem dJ0_ensureCapacityInternal_27 : decode cJ0_ensureCapacityInternal 27 = .ok (.aload_n 0, 1) := by decide +kernel
theorem dJ0_ensureCapacityInternal_28 : decode cJ0_ensureCapacityInternal 28 = .ok (.getfield 22, 3) := by decide +kernel
theorem dJ0_ensureCapacityInternal_31 : decode cJ0_ensureCapacityInternal 31 = .ok (.ishl, 1) := by decide +kernel
theorem dJ0_ensureCapacityInternal_32 : decode cJ0_ensureCapacityInternal 32 = .ok (.invokestatic 108, 3) := by decide +kernel
theorem dJ0_ensureCapacityInternal_35 : decode cJ0_ensureCapacityInternal 35 = .ok (.putfield 15, 3) := by decide +kernel
theorem dJ0_ensureCapacityInternal_38 : decode cJ0_ensureCapacityInternal 38 = .ok (.return_, 1) := by decide +kernel
abbrev MJ0_ensureCapacityInternal : zT := (yJ0_ensureCapacityInternal, cJ0_ensureCapacityInternal, 3, (Option.none : Option Jvm.ClassFile.FieldType), [])
theorem plJ0_ensureCapacityInternal : zplain MJ0_ensureCapacityInternal 1 ∧ (zcodeW MJ0_ensureCapacityInternal ∈ lw_all ∧ Cond.initialized MJ0_ensureCapacityInternal.1.cls ∈ lw_all) := ⟨⟨by decide +kernel, by decide +kernel⟩, q450, q102⟩
noncomputable def f_J0_ensureCapacityInternal_38 (σ : zM) : Option zO :=
  some (0, ((3, 0) : zV), σ)
theorem w_J0_ensureCapacityInternal_38 {g : zG} {lv : Nat} {out : zO} (σ : zM) {r : zO} (h : f_J0_ensureCapacityInternal_38  σ = some r) (hk : (fun o : zO => o = out) r) : Gj g MJ0_ensureCapacityInternal (lv + 3) 38 [] [] σ out := by
  revert h
  unfold f_J0_ensureCapacityInternal_38
  intro h
  cases h
  have hk : (0, ((3, 0) : zV), σ) = out := hk
  subst hk
  exact gj_vret (pc := 38) dJ0_ensureCapacityInternal_38 rfl
noncomputable def f_J0_ensureCapacityInternal (x0 x1 : Int) (σ : zM) : Option zO :=
  (zgf σ 2000 x0).bind fun v1 =>
  (zla σ 104 v1).bind fun v2 =>
  (zgf σ 2001 x0).bind fun v3 =>
  zlet ((zshr v2 v3)) fun y4 =>
  if (zsub x1 y4) ≤ 0 then
    f_J0_ensureCapacityInternal_38 σ
  else
    (zgf σ 2000 x0).bind fun v5 =>
    zgd (zis σ 21 x0) <|
    zci (f_J0_newCapacity x0 x1 σ) fun v6 σ7 =>
    (zgf σ7 2001 x0).bind fun v8 =>
    zcr (f_J13_copyOf v5 (zshl v6 v8) σ7) fun v9 σ10 =>
    (zpf σ10 2000 x0 v9).bind fun σ11 =>
    f_J0_ensureCapacityInternal_38 σ11
theorem c_J0_ensureCapacityInternal {g : zG} {lv : Nat} {x0 x1 : Int} {σ : zM} {out : zO} (h : f_J0_ensureCapacityInternal x0 x1 σ = some out) : Cj g (lv + 3) MJ0_ensureCapacityInternal [zr x0, zi x1] σ out := by
  refine cj_go (ls := [(0, zr x0), (1, zi x1)]) (by decide) (Nat.le_of_ble_eq_true rfl) rfl (zgen h (fun r hk => ?_))
  unfold f_J0_ensureCapacityInternal
  refine zst_ (gj_aload_n 0 (pc := 0) dJ0_ensureCapacityInternal_0 rfl) ?_
  refine gb_get (pc := 1) fl2000 dJ0_ensureCapacityInternal_1 q172 (Or.inl rfl) (fun v1 => ?_)
  refine gb_alen (pc := 4) (k := 104) (by decide) dJ0_ensureCapacityInternal_4 (fun v2 => ?_)
  refine zst_ (gj_aload_n 0 (pc := 5) dJ0_ensureCapacityInternal_5 rfl) ?_
  refine gb_get (pc := 6) fl2001 dJ0_ensureCapacityInternal_6 q173 (Or.inl rfl) (fun v3 => ?_)
  refine zst_ (gj_ishr (pc := 9) dJ0_ensureCapacityInternal_9) ?_
  refine gb_let (fun y4 => ?_)
  refine zst_ (gj_istore_n (pc := 10) (ls' := [(2, zi y4), (0, zr x0), (1, zi x1)]) dJ0_ensureCapacityInternal_10 (by decide) rfl) ?_
  refine zst_ (gj_iload_n 2 (pc := 11) dJ0_ensureCapacityInternal_11 rfl) ?_
  refine zst_ (gj_iload_n 0 (pc := 12) dJ0_ensureCapacityInternal_12 rfl) ?_
  refine zst_ (gj_isub (pc := 13) dJ0_ensureCapacityInternal_13) ?_
  refine gb_if (gj_if_le 38 (pc := 14) dJ0_ensureCapacityInternal_14 (by decide)) ?_ ?_
  · refine zst_ (gj_sub [] rfl) ?_
    exact fun h => w_J0_ensureCapacityInternal_38 σ h hk
  · refine zst_ (gj_aload_n 1 (pc := 17) dJ0_ensureCapacityInternal_17 rfl) ?_
    refine zst_ (gj_aload_n 1 (pc := 18) dJ0_ensureCapacityInternal_18 rfl) ?_
    refine gb_get (pc := 19) fl2000 dJ0_ensureCapacityInternal_19 q172 (Or.inl rfl) (fun v5 => ?_)
    refine zst_ (gj_aload_n 1 (pc := 22) dJ0_ensureCapacityInternal_22 rfl) ?_
    refine zst_ (gj_iload_n 2 (pc := 23) dJ0_ensureCapacityInternal_23 rfl) ?_
    refine gb_gd (fun hb => ?_)
    refine gb_callI (pc := 24) (as := [zr x0, zi x1]) (rest := [zr v5, zr x0]) (zCl.of (zLk_P (M := MJ0_ensureCapacityInternal) (xo := ⟨"java/lang/AbstractStringBuilder", "isLatin1", "()Z"⟩) (yo := ⟨"java/lang/AbstractStringBuilder", "isLatin1", "()Z"⟩) plJ0_newCapacity.1 rfl (zRcv_obj (ci := 20) (r := (RJ1, TJ1, 4)) rfl (zisE hb).1 (zisE hb).2) rfl dJ0_ensureCapacityInternal_24 q451 q453 q485 q452 q454) plJ0_newCapacity (Nat.le_of_ble_eq_true rfl) (fun h => c_J0_newCapacity h)) (fun v6 σ7 => ?_)
    refine zst_ (gj_aload_n 1 (pc := 27) dJ0_ensureCapacityInternal_27 rfl) ?_
    refine gb_get (pc := 28) fl2001 dJ0_ensureCapacityInternal_28 q173 (Or.inl rfl) (fun v8 => ?_)
    refine zst_ (gj_ishl (pc := 31) dJ0_ensureCapacityInternal_31) ?_
    refine gb_callA (pc := 32) (as := [zr v5, zi (zshl v6 v8)]) (rest := [zr x0]) (zCl.of (zLk_S (M := MJ0_ensureCapacityInternal) plJ13_copyOf.1 rfl dJ0_ensureCapacityInternal_32 q466 q467 q120 q468) plJ13_copyOf (Nat.le_of_ble_eq_true rfl) (fun h => c_J13_copyOf h)) (fun v9 σ10 => ?_)
    refine gb_put (pc := 35) fl2000 fr2000 dJ0_ensureCapacityInternal_35 q172 (Or.inl rfl) (fun σ11 => ?_)
    refine zst_ (gj_sub [] rfl) ?_
    exact fun h => w_J0_ensureCapacityInternal_38 σ11 h hk
theorem q1005 : (Jvm.Cond.code ({ cls := "java/util/Arrays", name := "rangeCheck", desc := "(III)V" } : Jvm.MethodName) prog_48_method_30_code (3 : Nat) (Option.none : Option Jvm.ClassFile.FieldType)) ∈ lw_all := lw_g (lw_at lw_m4 185 rfl) rfl
abbrev cJ13_rangeCheck : ByteArray := prog_48_method_30_code
def yJ13_rangeCheck : MethodName := ⟨RJ13, "rangeCheck", "(III)V"⟩
theorem dJ13_rangeCheck_0 : decode cJ13_rangeCheck 0 = .ok (.iload_n 1, 1) := by decide +kernel
theorem dJ13_rangeCheck_1 : decode cJ13_rangeCheck 1 = .ok (.iload_n 2, 1) := by decide +kernel
theorem dJ13_rangeCheck_2 : decode cJ13_rangeCheck 2 = .ok (.if_icmp .le 44, 3) := by decide +kernel
theorem dJ13_rangeCheck_5 : decode cJ13_rangeCheck 5 = .ok (.new 43, 3) := by decide +kernel
theorem dJ13_rangeCheck_8 : decode cJ13_rangeCheck 8 = .ok (.dup, 1) := by decide +kernel
theorem dJ13_rangeCheck_9 : decode cJ13_rangeCheck 9 = .ok (.new 45, 3) := by decide +kernel
theorem dJ13_rangeCheck_12 : decode cJ13_rangeCheck 12 = .ok (.dup, 1) := by decide +kernel
theorem dJ13_rangeCheck_13 : decode cJ13_rangeCheck 13 = .ok (.invokespecial 47, 3) := by decide +kernel
theorem dJ13_rangeCheck_16 : decode cJ13_rangeCheck 16 = .ok (.ldc 48, 2) := by decide +kernel
theorem dJ13_rangeCheck_18 : decode cJ13_rangeCheck 18 = .ok (.invokevirtual 50, 3) := by decide +kernel
theorem dJ13_rangeCheck_21 : decode cJ13_rangeCheck 21 = .ok (.iload_n 1, 1) := by decide +kernel
theorem dJ13_rangeCheck_22 : decode cJ13_rangeCheck 22 = .ok (.invokevirtual 54, 3) := by decide +kernel
theorem dJ13_rangeCheck_25 : decode cJ13_rangeCheck 25 = .ok (.ldc 57, 2) := by decide +kernel
theorem dJ13_rangeCheck_27 : decode cJ13_rangeCheck 27 = .ok (.invokevirtual 50, 3) := by decide +kernel
theorem dJ13_rangeCheck_30 : decode cJ13_rangeCheck 30 = .ok (.iload_n 2, 1) := by decide +kernel
theorem dJ13_rangeCheck_31 : decode cJ13_rangeCheck 31 = .ok (.invokevirtual 54, 3) := by decide +kernel
theorem dJ13_rangeCheck_34 : decode cJ13_rangeCheck 34 = .ok (.ldc 59, 2) := by decide +kernel
theorem dJ13_rangeCheck_36 : decode cJ13_rangeCheck 36 = .ok (.invokevirtual 50, 3) := by decide +kernel
theorem dJ13_rangeCheck_39 : decode cJ13_rangeCheck 39 = .ok (.invokevirtual 61, 3) := by decide +kernel
theorem dJ13_rangeCheck_42 : decode cJ13_rangeCheck 42 = .ok (.invokespecial 65, 3) := by decide +kernel
theorem dJ13_rangeCheck_45 : decode cJ13_rangeCheck 45 = .ok (.athrow, 1) := by decide +kernel
theorem dJ13_rangeCheck_46 : decode cJ13_rangeCheck 46 = .ok (.iload_n 1, 1) := by decide +kernel
theorem dJ13_rangeCheck_47 : decode cJ13_rangeCheck 47 = .ok (.ifCond .ge 12, 3) := by decide +kernel
theorem dJ13_rangeCheck_50 : decode cJ13_rangeCheck 50 = .ok (.new 68, 3) := by decide +kernel
theorem dJ13_rangeCheck_53 : decode cJ13_rangeCheck 53 = .ok (.dup, 1) := by decide +kernel
theorem dJ13_rangeCheck_54 : decode cJ13_rangeCheck 54 = .ok (.iload_n 1, 1) := by decide +kernel
theorem dJ13_rangeCheck_55 : decode cJ13_rangeCheck 55 = .ok (.invokespecial 70, 3) := by decide +kernel
theorem dJ13_rangeCheck_58 : decode cJ13_rangeCheck 58 = .ok (.athrow, 1) := by decide +kernel
theorem dJ13_rangeCheck_59 : decode cJ13_rangeCheck 59 = .ok (.iload_n 2, 1) := by decide +kernel
theorem dJ13_rangeCheck_60 : decode cJ13_rangeCheck 60 = .ok (.iload_n 0, 1) := by decide +kernel
theorem dJ13_rangeCheck_61 : decode cJ13_rangeCheck 61 = .ok (.if_icmp .le 12, 3) := by decide +kernel
theorem dJ13_rangeCheck_64 : decode cJ13_rangeCheck 64 = .ok (.new 68, 3) := by decide +kernel
theorem dJ13_rangeCheck_67 : decode cJ13_rangeCheck 67 = .ok (.dup, 1) := by decide +kernel
theorem dJ13_rangeCheck_68 : decode cJ13_rangeCheck 68 = .ok (.iload_n 2, 1) := by decide +kernel
theorem dJ13_rangeCheck_69 : decode cJ13_rangeCheck 69 = .ok (.invokespecial 70, 3) := by decide +kernel
theorem dJ13_rangeCheck_72 : decode cJ13_rangeCheck 72 = .ok (.athrow, 1) := by decide +kernel
theorem dJ13_rangeCheck_73 : decode cJ13_rangeCheck 73 = .ok (.return_, 1) := by decide +kernel
abbrev MJ13_rangeCheck : zT := (yJ13_rangeCheck, cJ13_rangeCheck, 3, (Option.none : Option Jvm.ClassFile.FieldType), [])
theorem plJ13_rangeCheck : zplain MJ13_rangeCheck 3 ∧ (zcodeW MJ13_rangeCheck ∈ lw_all ∧ Cond.initialized MJ13_rangeCheck.1.cls ∈ lw_all) := ⟨⟨by decide +kernel, by decide +kernel⟩, q1005, q120⟩
noncomputable def f_J13_rangeCheck (x0 x1 x2 : Int) (σ : zM) : Option zO :=
  if x1 ≤ x2 then
    if 0 ≤ x1 then
      if x2 ≤ x0 then
        some (0, ((3, 0) : zV), σ)
      else
        none
    else
      none
  else
    none
theorem c_J13_rangeCheck {g : zG} {lv : Nat} {x0 x1 x2 : Int} {σ : zM} {out : zO} (h : f_J13_rangeCheck x0 x1 x2 σ = some out) : Cj g (lv) MJ13_rangeCheck [zi x0, zi x1, zi x2] σ out := by
  refine cj_go (ls := [(0, zi x0), (1, zi x1), (2, zi x2)]) (by decide) (Nat.le_of_ble_eq_true rfl) rfl (zgen h (fun r hk => ?_))
  unfold f_J13_rangeCheck
  refine zst_ (gj_iload_n 1 (pc := 0) dJ13_rangeCheck_0 rfl) ?_
  refine zst_ (gj_iload_n 2 (pc := 1) dJ13_rangeCheck_1 rfl) ?_
  refine gb_if (gj_icmp_le 46 (pc := 2) dJ13_rangeCheck_2 (by decide)) ?_ ?_
  · refine zst_ (gj_iload_n 1 (pc := 46) dJ13_rangeCheck_46 rfl) ?_
    refine gb_if (gj_if_ge 59 (pc := 47) dJ13_rangeCheck_47 (by decide)) ?_ ?_
    · refine zst_ (gj_iload_n 2 (pc := 59) dJ13_rangeCheck_59 rfl) ?_
      refine zst_ (gj_iload_n 0 (pc := 60) dJ13_rangeCheck_60 rfl) ?_
      refine gb_if (gj_icmp_le 73 (pc := 61) dJ13_rangeCheck_61 (by decide)) ?_ ?_
      · intro h
        cases h
        have hk : (0, ((3, 0) : zV), σ) = out := hk
        subst hk
        exact gj_vret (pc := 73) dJ13_rangeCheck_73 rfl
      · exact (fun h => by cases h)
    · exact (fun h => by cases h)
  · exact (fun h => by cases h)
theorem q1002 : (Jvm.Cond.code ({ cls := "java/util/Arrays", name := "fill", desc := "([BIIB)V" } : Jvm.MethodName) prog_48_method_110_code (5 : Nat) (Option.none : Option Jvm.ClassFile.FieldType)) ∈ lw_all := lw_g (lw_at lw_m4 182 rfl) rfl
theorem q1003 : (Jvm.Cond.methodLink "java/util/Arrays" (13 : Nat) ({ cls := "java/util/Arrays", name := "rangeCheck", desc := "(III)V" } : Jvm.MethodName)) ∈ lw_all := lw_g (lw_at lw_m4 183 rfl) rfl
theorem q1004 : (Jvm.Cond.static ({ cls := "java/util/Arrays", name := "rangeCheck", desc := "(III)V" } : Jvm.MethodName)) ∈ lw_all := lw_g (lw_at lw_m4 184 rfl) rfl
abbrev cJ13_fill : ByteArray := prog_48_method_110_code
def yJ13_fill : MethodName := ⟨RJ13, "fill", "([BIIB)V"⟩
theorem dJ13_fill_0 : decode cJ13_fill 0 = .ok (.aload_n 0, 1) := by decide +kernel
theorem dJ13_fill_1 : decode cJ13_fill 1 = .ok (.arraylength, 1) := by decide +kernel
theorem dJ13_fill_2 : decode cJ13_fill 2 = .ok (.iload_n 1, 1) := by decide +kernel
theorem dJ13_fill_3 : decode cJ13_fill 3 = .ok (.iload_n 2, 1) := by decide +kernel
theorem dJ13_fill_4 : decode cJ13_fill 4 = .ok (.invokestatic 13, 3) := by decide +kernel
theorem dJ13_fill_7 : decode cJ13_fill 7 = .ok (.iload_n 1, 1) := by decide +kernel
theorem dJ13_fill_8 : decode cJ13_fill 8 = .ok (.istore 4, 2) := by decide +kernel
theorem dJ13_fill_10 : decode cJ13_fill 10 = .ok (.iload 4, 2) := by decide +kernel
theorem dJ13_fill_12 : decode cJ13_fill 12 = .ok (.iload_n 2, 1) := by decide +kernel
theorem dJ13_fill_13 : decode cJ13_fill 13 = .ok (.if_icmp .ge 14, 3) := by decide +kernel
theorem dJ13_fill_16 : decode cJ13_fill 16 = .ok (.aload_n 0, 1) := by decide +kernel
theorem dJ13_fill_17 : decode cJ13_fill 17 = .ok (.iload 4, 2) := by decide +kernel
theorem dJ13_fill_19 : decode cJ13_fill 19 = .ok (.iload_n 3, 1) := by decide +kernel
theorem dJ13_fill_20 : decode cJ13_fill 20 = .ok (.bastore, 1) := by decide +kernel
theorem dJ13_fill_21 : decode cJ13_fill 21 = .ok (.iinc 4 1, 3) := by decide +kernel
theorem dJ13_fill_24 : decode cJ13_fill 24 = .ok (.goto (-14), 3) := by decide +kernel
theorem dJ13_fill_27 : decode cJ13_fill 27 = .ok (.return_, 1) := by decide +kernel
abbrev MJ13_fill : zT := (yJ13_fill, cJ13_fill, 5, (Option.none : Option Jvm.ClassFile.FieldType), [])
theorem plJ13_fill : zplain MJ13_fill 4 ∧ (zcodeW MJ13_fill ∈ lw_all ∧ Cond.initialized MJ13_fill.1.cls ∈ lw_all) := ⟨⟨by decide +kernel, by decide +kernel⟩, q1002, q120⟩
noncomputable def f_J13_fill_27 (σ : zM) : Option zO :=
  some (0, ((3, 0) : zV), σ)
theorem w_J13_fill_27 {g : zG} {lv : Nat} {out : zO} (σ : zM) {r : zO} (h : f_J13_fill_27  σ = some r) (hk : (fun o : zO => o = out) r) : Gj g MJ13_fill (lv + 1) 27 [] [] σ out := by
  revert h
  unfold f_J13_fill_27
  intro h
  cases h
  have hk : (0, ((3, 0) : zV), σ) = out := hk
  subst hk
  exact gj_vret (pc := 27) dJ13_fill_27 rfl
noncomputable def f_J13_fill_10_b (x0 x2 x3 x4 : Int) (σ : zM) : Option ((Int × zM) ⊕ zO) :=
  if x2 ≤ x4 then
    (f_J13_fill_27 σ).map (fun r => (.inr r))
  else
    zgd (zby x3) <|
    (zpa σ 104 x0 x4 x3).bind fun σ1 =>
    zlet (zadd x4 1) fun y2 =>
    some (.inl (y2, σ1))
noncomputable def f_J13_fill_10 (x0 x2 x3 x4 : Int) (σ : zM) : Option zO :=
  zloop (fun s : Int × zM => f_J13_fill_10_b x0 x2 x3 s.1 s.2) (x4, σ)
theorem w_J13_fill_10_b {g : zG} {lv : Nat} {out : zO} (x0 x2 x3 x4 : Int) (σ : zM) {r : ((Int × zM) ⊕ zO)} (h : f_J13_fill_10_b x0 x2 x3 x4 σ = some r) (hk : (zKL (fun s : Int × zM => Gj g MJ13_fill (lv + 1) 10 [(0, zr x0), (2, zi x2), (3, zi x3), (4, zi s.1)] [] s.2 out) (fun o : zO => o = out)) r) : Gj g MJ13_fill (lv + 1) 10 [(0, zr x0), (2, zi x2), (3, zi x3), (4, zi x4)] [] σ out := by
  revert h
  unfold f_J13_fill_10_b
  refine zst_ (gj_iload 3 (pc := 10) dJ13_fill_10 rfl) ?_
  refine zst_ (gj_iload_n 1 (pc := 12) dJ13_fill_12 rfl) ?_
  refine gb_if (gj_icmp_ge 27 (pc := 13) dJ13_fill_13 (by decide)) ?_ ?_
  · refine zst_ (gj_sub [] rfl) ?_
    intro h
    obtain ⟨r0, h0, rfl⟩ := zmE h
    exact w_J13_fill_27 σ h0 hk
  · refine zst_ (gj_aload_n 0 (pc := 16) dJ13_fill_16 rfl) ?_
    refine zst_ (gj_iload 3 (pc := 17) dJ13_fill_17 rfl) ?_
    refine zst_ (gj_iload_n 2 (pc := 19) dJ13_fill_19 rfl) ?_
    refine gb_gd (fun hb => ?_)
    refine gb_bast (pc := 20) (zbyE hb) dJ13_fill_20 (fun σ1 => ?_)
    refine gb_iinc (pc := 21) 3 (fun y2 => [(4, zi y2), (0, zr x0), (2, zi x2), (3, zi x3)]) dJ13_fill_21 rfl (by decide) (fun _ => rfl) (fun y2 => ?_)
    refine zst_ (gj_goto 10 (pc := 24) dJ13_fill_24 (by decide)) ?_
    refine zst_ (gj_sub [1, 2, 3, 0] rfl) ?_
    intro h
    cases h
    exact hk
theorem w_J13_fill_10 {g : zG} {lv : Nat} {out : zO} (x0 x2 x3 x4 : Int) (σ : zM) {r : zO} (h : f_J13_fill_10 x0 x2 x3 x4 σ = some r) (hk : (fun o : zO => o = out) r) : Gj g MJ13_fill (lv + 1) 10 [(0, zr x0), (2, zi x2), (3, zi x3), (4, zi x4)] [] σ out :=
  gj_loop (P := (fun s : Int × zM => Gj g MJ13_fill (lv + 1) 10 [(0, zr x0), (2, zi x2), (3, zi x3), (4, zi s.1)] [] s.2 out)) (fun s x hb hx => w_J13_fill_10_b x0 x2 x3 s.1 s.2 hb hx) h hk
noncomputable def f_J13_fill (x0 x1 x2 x3 : Int) (σ : zM) : Option zO :=
  (zla σ 104 x0).bind fun v1 =>
  zcv (f_J13_rangeCheck v1 x1 x2 σ) fun σ2 =>
  f_J13_fill_10 x0 x2 x3 x1 σ2
theorem c_J13_fill {g : zG} {lv : Nat} {x0 x1 x2 x3 : Int} {σ : zM} {out : zO} (h : f_J13_fill x0 x1 x2 x3 σ = some out) : Cj g (lv + 1) MJ13_fill [zr x0, zi x1, zi x2, zi x3] σ out := by
  refine cj_go (ls := [(0, zr x0), (1, zi x1), (2, zi x2), (3, zi x3)]) (by decide) (Nat.le_of_ble_eq_true rfl) rfl (zgen h (fun r hk => ?_))
  unfold f_J13_fill
  refine zst_ (gj_aload_n 0 (pc := 0) dJ13_fill_0 rfl) ?_
  refine gb_alen (pc := 1) (k := 104) (by decide) dJ13_fill_1 (fun v1 => ?_)
  refine zst_ (gj_iload_n 1 (pc := 2) dJ13_fill_2 rfl) ?_
  refine zst_ (gj_iload_n 2 (pc := 3) dJ13_fill_3 rfl) ?_
  refine gb_callV (pc := 4) (as := [zi v1, zi x1, zi x2]) (rest := []) (zCl.of (zLk_S (M := MJ13_fill) plJ13_rangeCheck.1 rfl dJ13_fill_4 q1003 q1004 q120 q1005) plJ13_rangeCheck (Nat.le_of_ble_eq_true rfl) (fun h => c_J13_rangeCheck h)) (fun σ2 => ?_)
  refine zst_ (gj_iload_n 1 (pc := 7) dJ13_fill_7 rfl) ?_
  refine zst_ (gj_istore (pc := 8) (ls' := [(4, zi x1), (0, zr x0), (1, zi x1), (2, zi x2), (3, zi x3)]) dJ13_fill_8 (by decide) rfl) ?_
  refine zst_ (gj_sub [1, 3, 4, 0] rfl) ?_
  exact fun h => w_J13_fill_10 x0 x2 x3 x1 σ2 h hk
theorem q123 : (Jvm.Cond.initialized "java/lang/StringLatin1") ∈ lw_all := lw_g (lw_at lw_m1 23 rfl) rfl
theorem q999 : (Jvm.Cond.code ({ cls := "java/lang/StringLatin1", name := "fillNull", desc := "([BII)V" } : Jvm.MethodName) prog_40_method_48_code (3 : Nat) (Option.none : Option Jvm.ClassFile.FieldType)) ∈ lw_all := lw_g (lw_at lw_m4 179 rfl) rfl
theorem q1000 : (Jvm.Cond.methodLink "java/lang/StringLatin1" (236 : Nat) ({ cls := "java/util/Arrays", name := "fill", desc := "([BIIB)V" } : Jvm.MethodName)) ∈ lw_all := lw_g (lw_at lw_m4 180 rfl) rfl
theorem q1001 : (Jvm.Cond.static ({ cls := "java/util/Arrays", name := "fill", desc := "([BIIB)V" } : Jvm.MethodName)) ∈ lw_all := lw_g (lw_at lw_m4 181 rfl) rfl
abbrev cJ15_fillNull : ByteArray := prog_40_method_48_code
def yJ15_fillNull : MethodName := ⟨RJ15, "fillNull", "([BII)V"⟩
theorem dJ15_fillNull_0 : decode cJ15_fillNull 0 = .ok (.aload_n 0, 1) := by decide +kernel
theorem dJ15_fillNull_1 : decode cJ15_fillNull 1 = .ok (.iload_n 1, 1) := by decide +kernel
theorem dJ15_fillNull_2 : decode cJ15_fillNull 2 = .ok (.iload_n 2, 1) := by decide +kernel
theorem dJ15_fillNull_3 : decode cJ15_fillNull 3 = .ok (.iconst 0, 1) := by decide +kernel
theorem dJ15_fillNull_4 : decode cJ15_fillNull 4 = .ok (.invokestatic 236, 3) := by decide +kernel
theorem dJ15_fillNull_7 : decode cJ15_fillNull 7 = .ok (.return_, 1) := by decide +kernel
abbrev MJ15_fillNull : zT := (yJ15_fillNull, cJ15_fillNull, 3, (Option.none : Option Jvm.ClassFile.FieldType), [])
theorem plJ15_fillNull : zplain MJ15_fillNull 3 ∧ (zcodeW MJ15_fillNull ∈ lw_all ∧ Cond.initialized MJ15_fillNull.1.cls ∈ lw_all) := ⟨⟨by decide +kernel, by decide +kernel⟩, q999, q123⟩
noncomputable def f_J15_fillNull (x0 x1 x2 : Int) (σ : zM) : Option zO :=
  zcv (f_J13_fill x0 x1 x2 0 σ) fun σ1 =>
  some (0, ((3, 0) : zV), σ1)
theorem c_J15_fillNull {g : zG} {lv : Nat} {x0 x1 x2 : Int} {σ : zM} {out : zO} (h : f_J15_fillNull x0 x1 x2 σ = some out) : Cj g (lv + 2) MJ15_fillNull [zr x0, zi x1, zi x2] σ out := by
  refine cj_go (ls := [(0, zr x0), (1, zi x1), (2, zi x2)]) (by decide) (Nat.le_of_ble_eq_true rfl) rfl (zgen h (fun r hk => ?_))
  unfold f_J15_fillNull
  refine zst_ (gj_aload_n 0 (pc := 0) dJ15_fillNull_0 rfl) ?_
  refine zst_ (gj_iload_n 1 (pc := 1) dJ15_fillNull_1 rfl) ?_
  refine zst_ (gj_iload_n 2 (pc := 2) dJ15_fillNull_2 rfl) ?_
  refine zst_ (gj_iconst (pc := 3) dJ15_fillNull_3 (by decide)) ?_
  refine gb_callV (pc := 4) (as := [zr x0, zi x1, zi x2, zi 0]) (rest := []) (zCl.of (zLk_S (M := MJ15_fillNull) plJ13_fill.1 rfl dJ15_fillNull_4 q1000 q1001 q120 q1002) plJ13_fill (Nat.le_of_ble_eq_true rfl) (fun h => c_J13_fill h)) (fun σ1 => ?_)
  intro h
  cases h
  have hk : (0, ((3, 0) : zV), σ1) = out := hk
  subst hk
  exact gj_vret (pc := 7) dJ15_fillNull_7 rfl
theorem q174 : (Jvm.Cond.fieldLink "java/lang/AbstractStringBuilder" (73 : Nat) "java/lang/AbstractStringBuilder" "maybeLatin1" "Z") ∈ lw_all := lw_g (lw_at lw_m1 74 rfl) rfl
theorem q447 : (Jvm.Cond.methodLink "java/lang/AbstractStringBuilder" (100 : Nat) ({ cls := "java/lang/AbstractStringBuilder", name := "ensureCapacityInternal", desc := "(I)V" } : Jvm.MethodName)) ∈ lw_all := lw_g (lw_at lw_m2 107 rfl) rfl
theorem q448 : (Jvm.Cond.privateMethod ({ cls := "java/lang/AbstractStringBuilder", name := "ensureCapacityInternal", desc := "(I)V" } : Jvm.MethodName)) ∈ lw_tbl := lw_at lw_m2 108 rfl
theorem q449 : (Jvm.Cond.instanceMethod ({ cls := "java/lang/AbstractStringBuilder", name := "ensureCapacityInternal", desc := "(I)V" } : Jvm.MethodName)) ∈ lw_all := lw_g (lw_at lw_m2 109 rfl) rfl
theorem q482 : (Jvm.Cond.methodLink "java/lang/AbstractStringBuilder" (83 : Nat) ({ cls := "java/lang/AbstractStringBuilder", name := "isLatin1", desc := "()Z" } : Jvm.MethodName)) ∈ lw_all := lw_g (lw_at lw_m2 142 rfl) rfl
theorem q974 : (Jvm.Cond.code ({ cls := "java/lang/AbstractStringBuilder", name := "setLength", desc := "(I)V" } : Jvm.MethodName) prog_24_method_13_code (2 : Nat) (Option.none : Option Jvm.ClassFile.FieldType)) ∈ lw_all := lw_g (lw_at lw_m4 154 rfl) rfl
theorem q997 : (Jvm.Cond.methodLink "java/lang/AbstractStringBuilder" (133 : Nat) ({ cls := "java/lang/StringLatin1", name := "fillNull", desc := "([BII)V" } : Jvm.MethodName)) ∈ lw_all := lw_g (lw_at lw_m4 177 rfl) rfl
theorem q998 : (Jvm.Cond.static ({ cls := "java/lang/StringLatin1", name := "fillNull", desc := "([BII)V" } : Jvm.MethodName)) ∈ lw_all := lw_g (lw_at lw_m4 178 rfl) rfl
abbrev cJ0_setLength : ByteArray := prog_24_method_13_code
def yJ0_setLength : MethodName := ⟨RJ0, "setLength", "(I)V"⟩
theorem dJ0_setLength_0 : decode cJ0_setLength 0 = .ok (.iload_n 1, 1) := by decide +kernel
theorem dJ0_setLength_1 : decode cJ0_setLength 1 = .ok (.ifCond .ge 12, 3) := by decide +kernel
theorem dJ0_setLength_4 : decode cJ0_setLength 4 = .ok (.new 129, 3) := by decide +kernel
theorem dJ0_setLength_7 : decode cJ0_setLength 7 = .ok (.dup, 1) := by decide +kernel
theorem dJ0_setLength_8 : decode cJ0_setLength 8 = .ok (.iload_n 1, 1) := by decide +kernel
theorem dJ0_setLength_9 : decode cJ0_setLength 9 = .ok (.invokespecial 131, 3) := by decide +kernel
theorem dJ0_setLength_12 : decode cJ0_setLength 12 = .ok (.athrow, 1) := by decide +kernel
theorem dJ0_setLength_13 : decode cJ0_setLength 13 = .ok (.aload_n 0, 1) := by decide +kernel
theorem dJ0_setLength_14 : decode cJ0_setLength 14 = .ok (.iload_n 1, 1) := by decide +kernel
theorem dJ0_setLength_15 : decode cJ0_setLength 15 = .ok (.invokevirtual 100, 3) := by decide +kernel
theorem dJ0_setLength_18 : decode cJ0_setLength 18 = .ok (.aload_n 0, 1) := by decide +kernel
theorem dJ0_setLength_19 : decode cJ0_setLength 19 = .ok (.getfield 79, 3) := by decide +kernel
theorem dJ0_setLength_22 : decode cJ0_setLength 22 = .ok (.iload_n 1, 1) := by decide +kernel
theorem dJ0_setLength_23 : decode cJ0_setLength 23 = .ok (.if_icmp .ge 40, 3) := by decide +kernel
theorem dJ0_setLength_26 : decode cJ0_setLength 26 = .ok (.aload_n 0, 1) := by decide +kernel
theorem dJ0_setLength_27 : decode cJ0_setLength 27 = .ok (.invokevirtual 83, 3) := by decide +kernel
theorem dJ0_setLength_30 : decode cJ0_setLength 30 = .ok (.ifCond .eq 18, 3) := by decide +kernel
theorem dJ0_setLength_33 : decode cJ0_setLength 33 = .ok (.aload_n 0, 1) := by decide +kernel
theorem dJ0_setLength_34 : decode cJ0_setLength 34 = .ok (.getfield 15, 3) := by decide +kernel
theorem dJ0_setLength_37 : decode cJ0_setLength 37 = .ok (.aload_n 0, 1) := by decide +kernel
theorem dJ0_setLength_38 : decode cJ0_setLength 38 = .ok (.getfield 79, 3) := by decide +kernel
theorem dJ0_setLength_41 : decode cJ0_setLength 41 = .ok (.iload_n 1, 1) := by decide +kernel
theorem dJ0_setLength_42 : decode cJ0_setLength 42 = .ok (.invokestatic 133, 3) := by decide +kernel
theorem dJ0_setLength_45 : decode cJ0_setLength 45 = .ok (.goto 31, 3) := by decide +kernel
theorem dJ0_setLength_48 : decode cJ0_setLength 48 = .ok (.aload_n 0, 1) := by decide +kernel
theorem dJ0_setLength_49 : decode cJ0_setLength 49 = .ok (.getfield 15, 3) := by decide +kernel
theorem dJ0_setLength_52 : decode cJ0_setLength 52 = .ok (.aload_n 0, 1) := by decide +kernel
theorem dJ0_setLength_53 : decode cJ0_setLength 53 = .ok (.getfield 79, 3) := by decide +kernel
theorem dJ0_setLength_56 : decode cJ0_setLength 56 = .ok (.iload_n 1, 1) := by decide +kernel
theorem dJ0_setLength_57 : decode cJ0_setLength 57 = .ok (.invokestatic 137, 3) := by decide +kernel
theorem dJ0_setLength_60 : decode cJ0_setLength 60 = .ok (.goto 16, 3) := by decide +kernel
theorem dJ0_setLength_63 : decode cJ0_setLength 63 = .ok (.aload_n 0, 1) := by decide +kernel
theorem dJ0_setLength_64 : decode cJ0_setLength 64 = .ok (.getfield 79, 3) := by decide +kernel
theorem dJ0_setLength_67 : decode cJ0_setLength 67 = .ok (.iload_n 1, 1) := by decide +kernel
theorem dJ0_setLength_68 : decode cJ0_setLength 68 = .ok (.if_icmp .le 8, 3) := by decide +kernel
theorem dJ0_setLength_71 : decode cJ0_setLength 71 = .ok (.aload_n 0, 1) := by decide +kernel
theorem dJ0_setLength_72 : decode cJ0_setLength 72 = .ok (.iconst 1, 1) := by decide +kernel
theorem dJ0_setLength_73 : decode cJ0_setLength 73 = .ok (.putfield 73, 3) := by decide +kernel
theorem dJ0_setLength_76 : decode cJ0_setLength 76 = .ok (.aload_n 0, 1) := by decide +kernel
theorem dJ0_setLength_77 : decode cJ0_setLength 77 = .ok (.iload_n 1, 1) := by decide +kernel
theorem dJ0_setLength_78 : decode cJ0_setLength 78 = .ok (.putfield 79, 3) := by decide +kernel
theorem dJ0_setLength_81 : decode cJ0_setLength 81 = .ok (.return_, 1) := by decide +kernel
abbrev MJ0_setLength : zT := (yJ0_setLength, cJ0_setLength, 2, (Option.none : Option Jvm.ClassFile.FieldType), [])
theorem plJ0_setLength : zplain MJ0_setLength 1 ∧ (zcodeW MJ0_setLength ∈ lw_all ∧ Cond.initialized MJ0_setLength.1.cls ∈ lw_all) := ⟨⟨by decide +kernel, by decide +kernel⟩, q974, q102⟩
noncomputable def f_J0_setLength_76 (x0 x1 : Int) (σ : zM) : Option zO :=
  (zpf σ 2003 x0 x1).bind fun σ1 =>
  some (0, ((3, 0) : zV), σ1)
theorem w_J0_setLength_76 {g : zG} {lv : Nat} {out : zO} (x0 x1 : Int) (σ : zM) {r : zO} (h : f_J0_setLength_76 x0 x1 σ = some r) (hk : (fun o : zO => o = out) r) : Gj g MJ0_setLength (lv + 4) 76 [(0, zr x0), (1, zi x1)] [] σ out := by
  revert h
  unfold f_J0_setLength_76
  refine zst_ (gj_aload_n 0 (pc := 76) dJ0_setLength_76 rfl) ?_
  refine zst_ (gj_iload_n 1 (pc := 77) dJ0_setLength_77 rfl) ?_
  refine gb_put (pc := 78) fl2003 fr2003 dJ0_setLength_78 q176 (Or.inl rfl) (fun σ1 => ?_)
  intro h
  cases h
  have hk : (0, ((3, 0) : zV), σ1) = out := hk
  subst hk
  exact gj_vret (pc := 81) dJ0_setLength_81 rfl
noncomputable def f_J0_setLength (x0 x1 : Int) (σ : zM) : Option zO :=
  if 0 ≤ x1 then
    zgd (zis σ 21 x0) <|
    zcv (f_J0_ensureCapacityInternal x0 x1 σ) fun σ1 =>
    (zgf σ1 2003 x0).bind fun v2 =>
    if x1 ≤ v2 then
      (zgf σ1 2003 x0).bind fun v3 =>
      if v3 ≤ x1 then
        f_J0_setLength_76 x0 x1 σ1
      else
        zgd (z01 1) <|
        (zpf σ1 2002 x0 1).bind fun σ4 =>
        f_J0_setLength_76 x0 x1 σ4
    else
      zgd (zis σ1 21 x0) <|
      zci (f_J0_isLatin1 x0 σ1) fun v5 σ6 =>
      if v5 = 0 then
        (zgf σ6 2000 x0).bind fun v7 =>
        (zgf σ6 2003 x0).bind fun v8 =>
        none
      else
        (zgf σ6 2000 x0).bind fun v9 =>
        (zgf σ6 2003 x0).bind fun v10 =>
        zcv (f_J15_fillNull v9 v10 x1 σ6) fun σ11 =>
        f_J0_setLength_76 x0 x1 σ11
  else
    none
theorem c_J0_setLength {g : zG} {lv : Nat} {x0 x1 : Int} {σ : zM} {out : zO} (h : f_J0_setLength x0 x1 σ = some out) : Cj g (lv + 4) MJ0_setLength [zr x0, zi x1] σ out := by
  refine cj_go (ls := [(0, zr x0), (1, zi x1)]) (by decide) (Nat.le_of_ble_eq_true rfl) rfl (zgen h (fun r hk => ?_))
  unfold f_J0_setLength
  refine zst_ (gj_iload_n 1 (pc := 0) dJ0_setLength_0 rfl) ?_
  refine gb_if (gj_if_ge 13 (pc := 1) dJ0_setLength_1 (by decide)) ?_ ?_
  · refine zst_ (gj_aload_n 0 (pc := 13) dJ0_setLength_13 rfl) ?_
    refine zst_ (gj_iload_n 1 (pc := 14) dJ0_setLength_14 rfl) ?_
    refine gb_gd (fun hb => ?_)
    refine gb_callV (pc := 15) (as := [zr x0, zi x1]) (rest := []) (zCl.of (zLk_P (M := MJ0_setLength) (xo := ⟨"java/lang/AbstractStringBuilder", "isLatin1", "()Z"⟩) (yo := ⟨"java/lang/AbstractStringBuilder", "isLatin1", "()Z"⟩) plJ0_ensureCapacityInternal.1 rfl (zRcv_obj (ci := 20) (r := (RJ1, TJ1, 4)) rfl (zisE hb).1 (zisE hb).2) rfl dJ0_setLength_15 q447 q449 q485 q448 q450) plJ0_ensureCapacityInternal (Nat.le_of_ble_eq_true rfl) (fun h => c_J0_ensureCapacityInternal h)) (fun σ1 => ?_)
    refine zst_ (gj_aload_n 0 (pc := 18) dJ0_setLength_18 rfl) ?_
    refine gb_get (pc := 19) fl2003 dJ0_setLength_19 q176 (Or.inl rfl) (fun v2 => ?_)
    refine zst_ (gj_iload_n 1 (pc := 22) dJ0_setLength_22 rfl) ?_
    refine gb_if (gj_icmp_ge 63 (pc := 23) dJ0_setLength_23 (by decide)) ?_ ?_
    · refine zst_ (gj_aload_n 0 (pc := 63) dJ0_setLength_63 rfl) ?_
      refine gb_get (pc := 64) fl2003 dJ0_setLength_64 q176 (Or.inl rfl) (fun v3 => ?_)
      refine zst_ (gj_iload_n 1 (pc := 67) dJ0_setLength_67 rfl) ?_
      refine gb_if (gj_icmp_le 76 (pc := 68) dJ0_setLength_68 (by decide)) ?_ ?_
      · exact fun h => w_J0_setLength_76 x0 x1 σ1 h hk
      · refine zst_ (gj_aload_n 0 (pc := 71) dJ0_setLength_71 rfl) ?_
        refine zst_ (gj_iconst (pc := 72) dJ0_setLength_72 (by decide)) ?_
        refine gb_gd (fun hb => ?_)
        refine gb_put (pc := 73) fl2002 (fr2002 hb) dJ0_setLength_73 q174 (Or.inl rfl) (fun σ4 => ?_)
        exact fun h => w_J0_setLength_76 x0 x1 σ4 h hk
    · refine zst_ (gj_aload_n 0 (pc := 26) dJ0_setLength_26 rfl) ?_
      refine gb_gd (fun hb => ?_)
      refine gb_callI (pc := 27) (as := [zr x0]) (rest := []) (zCl.of (zLk_V (M := MJ0_setLength) (ci := 20) (r := (RJ1, TJ1, 4)) plJ0_isLatin1.1 rfl rfl (zisE hb).1 (zisE hb).2 dJ0_setLength_27 q482 q483 q485 q486) plJ0_isLatin1 (Nat.le_of_ble_eq_true rfl) (fun h => c_J0_isLatin1 h)) (fun v5 σ6 => ?_)
      refine gb_if (gj_if_eq 48 (pc := 30) dJ0_setLength_30 (by decide)) ?_ ?_
      · refine zst_ (gj_aload_n 0 (pc := 48) dJ0_setLength_48 rfl) ?_
        refine gb_get (pc := 49) fl2000 dJ0_setLength_49 q172 (Or.inl rfl) (fun v7 => ?_)
        refine zst_ (gj_aload_n 0 (pc := 52) dJ0_setLength_52 rfl) ?_
        refine gb_get (pc := 53) fl2003 dJ0_setLength_53 q176 (Or.inl rfl) (fun v8 => ?_)
        refine zst_ (gj_iload_n 1 (pc := 56) dJ0_setLength_56 rfl) ?_
        exact (fun h => by cases h)
      · refine zst_ (gj_aload_n 0 (pc := 33) dJ0_setLength_33 rfl) ?_
        refine gb_get (pc := 34) fl2000 dJ0_setLength_34 q172 (Or.inl rfl) (fun v9 => ?_)
        refine zst_ (gj_aload_n 0 (pc := 37) dJ0_setLength_37 rfl) ?_
        refine gb_get (pc := 38) fl2003 dJ0_setLength_38 q176 (Or.inl rfl) (fun v10 => ?_)
        refine zst_ (gj_iload_n 1 (pc := 41) dJ0_setLength_41 rfl) ?_
        refine gb_callV (pc := 42) (as := [zr v9, zi v10, zi x1]) (rest := []) (zCl.of (zLk_S (M := MJ0_setLength) plJ15_fillNull.1 rfl dJ0_setLength_42 q997 q998 q123 q999) plJ15_fillNull (Nat.le_of_ble_eq_true rfl) (fun h => c_J15_fillNull h)) (fun σ11 => ?_)
        refine zst_ (gj_goto 76 (pc := 45) dJ0_setLength_45 (by decide)) ?_
        exact fun h => w_J0_setLength_76 x0 x1 σ11 h hk
  · exact (fun h => by cases h)
theorem q971 : (Jvm.Cond.code ({ cls := "java/lang/StringBuilder", name := "setLength", desc := "(I)V" } : Jvm.MethodName) prog_38_method_89_code (2 : Nat) (Option.none : Option Jvm.ClassFile.FieldType)) ∈ lw_all := lw_g (lw_at lw_m4 151 rfl) rfl
theorem q972 : (Jvm.Cond.methodLink "java/lang/StringBuilder" (333 : Nat) ({ cls := "java/lang/AbstractStringBuilder", name := "setLength", desc := "(I)V" } : Jvm.MethodName)) ∈ lw_all := lw_g (lw_at lw_m4 152 rfl) rfl
theorem q973 : (Jvm.Cond.instanceMethod ({ cls := "java/lang/AbstractStringBuilder", name := "setLength", desc := "(I)V" } : Jvm.MethodName)) ∈ lw_all := lw_g (lw_at lw_m4 153 rfl) rfl
theorem q2457 : (Jvm.Cond.sameMethod "java/lang/AbstractStringBuilder" "java/lang/AbstractStringBuilder" "setLength" "(I)V") ∈ lw_all := lw_g (lw_at lw_m10 197 rfl) rfl
abbrev cJ1_setLength : ByteArray := prog_38_method_89_code
def yJ1_setLength : MethodName := ⟨RJ1, "setLength", "(I)V"⟩
theorem dJ1_setLength_0 : decode cJ1_setLength 0 = .ok (.aload_n 0, 1) := by decide +kernel
theorem dJ1_setLength_1 : decode cJ1_setLength 1 = .ok (.iload_n 1, 1) := by decide +kernel
theorem dJ1_setLength_2 : decode cJ1_setLength 2 = .ok (.invokespecial 333, 3) := by decide +kernel
theorem dJ1_setLength_5 : decode cJ1_setLength 5 = .ok (.return_, 1) := by decide +kernel
abbrev MJ1_setLength : zT := (yJ1_setLength, cJ1_setLength, 2, (Option.none : Option Jvm.ClassFile.FieldType), [])
theorem plJ1_setLength : zplain MJ1_setLength 1 ∧ (zcodeW MJ1_setLength ∈ lw_all ∧ Cond.initialized MJ1_setLength.1.cls ∈ lw_all) := ⟨⟨by decide +kernel, by decide +kernel⟩, q971, q103⟩
noncomputable def f_J1_setLength (x0 x1 : Int) (σ : zM) : Option zO :=
  zgd (zis σ 21 x0) <|
  zcv (f_J0_setLength x0 x1 σ) fun σ1 =>
  some (0, ((3, 0) : zV), σ1)
theorem c_J1_setLength {g : zG} {lv : Nat} {x0 x1 : Int} {σ : zM} {out : zO} (h : f_J1_setLength x0 x1 σ = some out) : Cj g (lv + 5) MJ1_setLength [zr x0, zi x1] σ out := by
  refine cj_go (ls := [(0, zr x0), (1, zi x1)]) (by decide) (Nat.le_of_ble_eq_true rfl) rfl (zgen h (fun r hk => ?_))
  unfold f_J1_setLength
  refine zst_ (gj_aload_n 0 (pc := 0) dJ1_setLength_0 rfl) ?_
  refine zst_ (gj_iload_n 1 (pc := 1) dJ1_setLength_1 rfl) ?_
  refine gb_gd (fun hb => ?_)
  refine gb_callV (pc := 2) (as := [zr x0, zi x1]) (rest := []) (zCl.of (zLk_Sp (M := MJ1_setLength) (ci := 20) (r := (RJ1, TJ1, 4)) plJ0_setLength.1 rfl (by decide) rfl (zisE hb).1 (zisE hb).2 dJ1_setLength_2 q972 q2457 q185 q973 q974) plJ0_setLength (Nat.le_of_ble_eq_true rfl) (fun h => c_J0_setLength h)) (fun σ1 => ?_)
  intro h
  cases h
  have hk : (0, ((3, 0) : zV), σ1) = out := hk
  subst hk
  exact gj_vret (pc := 5) dJ1_setLength_5 rfl
theorem q101 : (Jvm.Cond.initialized "LassoFinder") ∈ lw_all := lw_g (lw_at lw_m1 1 rfl) rfl
theorem q582 : (Jvm.Cond.instanceMethod ({ cls := "java/lang/StringBuilder", name := "toString", desc := "()Ljava/lang/String;" } : Jvm.MethodName)) ∈ lw_all := lw_g (lw_at lw_m3 2 rfl) rfl
theorem q583 : (Jvm.Cond.selects "java/lang/StringBuilder" ({ cls := "java/lang/StringBuilder", name := "toString", desc := "()Ljava/lang/String;" } : Jvm.MethodName) ({ cls := "java/lang/StringBuilder", name := "toString", desc := "()Ljava/lang/String;" } : Jvm.MethodName)) ∈ lw_all := lw_g (lw_at lw_m3 3 rfl) rfl
theorem q841 : (Jvm.Cond.fieldLink "LassoFinder" (12 : Nat) "LassoFinder" "text" "Ljava/lang/StringBuilder;") ∈ lw_all := lw_g (lw_at lw_m4 21 rfl) rfl
theorem q846 : (Jvm.Cond.fieldLink "LassoFinder" (86 : Nat) "LassoFinder" "asked" "LLassoFinder$Formula;") ∈ lw_all := lw_g (lw_at lw_m4 26 rfl) rfl
theorem q848 : (Jvm.Cond.fieldLink "LassoFinder" (82 : Nat) "LassoFinder" "found" "Z") ∈ lw_all := lw_g (lw_at lw_m4 28 rfl) rfl
theorem q849 : (Jvm.Cond.fieldLink "LassoFinder" (48 : Nat) "LassoFinder" "wrong" "I") ∈ lw_all := lw_g (lw_at lw_m4 29 rfl) rfl
theorem q966 : (Jvm.Cond.code ({ cls := "LassoFinder", name := "taken", desc := "()Ljava/lang/String;" } : Jvm.MethodName) prog_1_method_3_code (2 : Nat) (Option.some (Jvm.ClassFile.FieldType.object "java/lang/String"))) ∈ lw_all := lw_g (lw_at lw_m4 146 rfl) rfl
theorem q967 : (Jvm.Cond.methodLink "LassoFinder" (74 : Nat) ({ cls := "java/lang/StringBuilder", name := "toString", desc := "()Ljava/lang/String;" } : Jvm.MethodName)) ∈ lw_all := lw_g (lw_at lw_m4 147 rfl) rfl
theorem q968 : (Jvm.Cond.methodLink "LassoFinder" (78 : Nat) ({ cls := "java/lang/StringBuilder", name := "setLength", desc := "(I)V" } : Jvm.MethodName)) ∈ lw_all := lw_g (lw_at lw_m4 148 rfl) rfl
theorem q969 : (Jvm.Cond.instanceMethod ({ cls := "java/lang/StringBuilder", name := "setLength", desc := "(I)V" } : Jvm.MethodName)) ∈ lw_all := lw_g (lw_at lw_m4 149 rfl) rfl
theorem q970 : (Jvm.Cond.selects "java/lang/StringBuilder" ({ cls := "java/lang/StringBuilder", name := "setLength", desc := "(I)V" } : Jvm.MethodName) ({ cls := "java/lang/StringBuilder", name := "setLength", desc := "(I)V" } : Jvm.MethodName)) ∈ lw_all := lw_g (lw_at lw_m4 150 rfl) rfl
theorem fl100 : zfl 100 2 "LassoFinder" "text" "Ljava/lang/StringBuilder;" true := ⟨rfl, rfl, rfl⟩
theorem fr100 {g : zG} {v : Int} : zok g (2, v) → zokt g (zft 100) v := fun h => h
theorem fl105 : zfl 105 2 "LassoFinder" "asked" "LLassoFinder$Formula;" false := ⟨rfl, rfl, rfl⟩
theorem fr105 {g : zG} {v : Int} : zok g (2, v) → zokt g (zft 105) v := fun h => h
theorem fl107 : zfl 107 0 "LassoFinder" "found" "Z" false := ⟨rfl, rfl, rfl⟩
theorem fr107 {g : zG} {v : Int} (h : z01 v = true) : zok g (0, v) → zokt g (zft 107) v := fun _ => z01E h
theorem fl108 : zfl 108 0 "LassoFinder" "wrong" "I" false := ⟨rfl, rfl, rfl⟩
theorem fr108 {g : zG} {v : Int} : zok g (0, v) → zokt g (zft 108) v := fun h => h
abbrev cX1_taken : ByteArray := prog_1_method_3_code
def yX1_taken : MethodName := ⟨RX1, "taken", "()Ljava/lang/String;"⟩
theorem dX1_taken_0 : decode cX1_taken 0 = .ok (.aload_n 0, 1) := by decide +kernel
theorem dX1_taken_1 : decode cX1_taken 1 = .ok (.getfield 12, 3) := by decide +kernel
theorem dX1_taken_4 : decode cX1_taken 4 = .ok (.invokevirtual 74, 3) := by decide +kernel
theorem dX1_taken_7 : decode cX1_taken 7 = .ok (.astore_n 1, 1) := by decide +kernel
theorem dX1_taken_8 : decode cX1_taken 8 = .ok (.aload_n 0, 1) := by decide +kernel
theorem dX1_taken_9 : decode cX1_taken 9 = .ok (.getfield 12, 3) := by decide +kernel
theorem dX1_taken_12 : decode cX1_taken 12 = .ok (.iconst 0, 1) := by decide +kernel
theorem dX1_taken_13 : decode cX1_taken 13 = .ok (.invokevirtual 78, 3) := by decide +kernel
theorem dX1_taken_16 : decode cX1_taken 16 = .ok (.aload_n 0, 1) := by decide +kernel
theorem dX1_taken_17 : decode cX1_taken 17 = .ok (.iconst (-1), 1) := by decide +kernel
theorem dX1_taken_18 : decode cX1_taken 18 = .ok (.putfield 48, 3) := by decide +kernel
theorem dX1_taken_21 : decode cX1_taken 21 = .ok (.aload_n 0, 1) := by decide +kernel
theorem dX1_taken_22 : decode cX1_taken 22 = .ok (.iconst 0, 1) := by decide +kernel
theorem dX1_taken_23 : decode cX1_taken 23 = .ok (.putfield 82, 3) := by decide +kernel
theorem dX1_taken_26 : decode cX1_taken 26 = .ok (.aload_n 0, 1) := by decide +kernel
theorem dX1_taken_27 : decode cX1_taken 27 = .ok (.aconst_null, 1) := by decide +kernel
theorem dX1_taken_28 : decode cX1_taken 28 = .ok (.putfield 86, 3) := by decide +kernel
theorem dX1_taken_31 : decode cX1_taken 31 = .ok (.aload_n 1, 1) := by decide +kernel
theorem dX1_taken_32 : decode cX1_taken 32 = .ok (.areturn, 1) := by decide +kernel
abbrev MX1_taken : zT := (yX1_taken, cX1_taken, 2, (Option.some (Jvm.ClassFile.FieldType.object "java/lang/String")), [])
theorem plX1_taken : zplain MX1_taken 0 ∧ (zcodeW MX1_taken ∈ lw_all ∧ Cond.initialized MX1_taken.1.cls ∈ lw_all) := ⟨⟨by decide +kernel, by decide +kernel⟩, q966, q101⟩
noncomputable def f_X1_taken (x0 : Int) (σ : zM) : Option zO :=
  (zgf σ 100 x0).bind fun v1 =>
  zgd (zis σ 21 v1) <|
  zcr (f_J1_toString v1 σ) fun v2 σ3 =>
  (zgf σ3 100 x0).bind fun v4 =>
  zgd (zis σ3 21 v4) <|
  zcv (f_J1_setLength v4 0 σ3) fun σ5 =>
  (zpf σ5 108 x0 (-1)).bind fun σ6 =>
  zgd (z01 0) <|
  (zpf σ6 107 x0 0).bind fun σ7 =>
  (zpf σ7 105 x0 (-1)).bind fun σ8 =>
  some (0, zr v2, σ8)
theorem c_X1_taken {g : zG} {lv : Nat} {x0 : Int} {σ : zM} {out : zO} (h : f_X1_taken x0 σ = some out) : Cj g (lv + 6) MX1_taken [zr x0] σ out := by
  refine cj_go (ls := [(0, zr x0)]) (by decide) (Nat.le_of_ble_eq_true rfl) rfl (zgen h (fun r hk => ?_))
  unfold f_X1_taken
  refine zst_ (gj_aload_n 0 (pc := 0) dX1_taken_0 rfl) ?_
  refine gb_get (pc := 1) fl100 dX1_taken_1 q841 (Or.inl rfl) (fun v1 => ?_)
  refine gb_gd (fun hb => ?_)
  refine gb_callA (pc := 4) (as := [zr v1]) (rest := []) (zCl.of (zLk_V (M := MX1_taken) (ci := 20) (r := (RJ1, TJ1, 4)) plJ1_toString.1 rfl rfl (zisE hb).1 (zisE hb).2 dX1_taken_4 q967 q582 q583 q584) plJ1_toString (Nat.le_of_ble_eq_true rfl) (fun h => c_J1_toString h)) (fun v2 σ3 => ?_)
  refine zst_ (gj_astore_n (pc := 7) (ls' := [(1, zr v2), (0, zr x0)]) dX1_taken_7 (by decide) rfl) ?_
  refine zst_ (gj_aload_n 1 (pc := 8) dX1_taken_8 rfl) ?_
  refine gb_get (pc := 9) fl100 dX1_taken_9 q841 (Or.inl rfl) (fun v4 => ?_)
  refine zst_ (gj_iconst (pc := 12) dX1_taken_12 (by decide)) ?_
  refine gb_gd (fun hb => ?_)
  refine gb_callV (pc := 13) (as := [zr v4, zi 0]) (rest := []) (zCl.of (zLk_V (M := MX1_taken) (ci := 20) (r := (RJ1, TJ1, 4)) plJ1_setLength.1 rfl rfl (zisE hb).1 (zisE hb).2 dX1_taken_13 q968 q969 q970 q971) plJ1_setLength (Nat.le_of_ble_eq_true rfl) (fun h => c_J1_setLength h)) (fun σ5 => ?_)
  refine zst_ (gj_aload_n 1 (pc := 16) dX1_taken_16 rfl) ?_
  refine zst_ (gj_iconst (pc := 17) dX1_taken_17 (by decide)) ?_
  refine gb_put (pc := 18) fl108 fr108 dX1_taken_18 q849 (Or.inl rfl) (fun σ6 => ?_)
  refine zst_ (gj_aload_n 1 (pc := 21) dX1_taken_21 rfl) ?_
  refine zst_ (gj_iconst (pc := 22) dX1_taken_22 (by decide)) ?_
  refine gb_gd (fun hb => ?_)
  refine gb_put (pc := 23) fl107 (fr107 hb) dX1_taken_23 q848 (Or.inl rfl) (fun σ7 => ?_)
  refine zst_ (gj_aload_n 1 (pc := 26) dX1_taken_26 rfl) ?_
  refine zst_ (gj_null (pc := 27) dX1_taken_27) ?_
  refine gb_put (pc := 28) fl105 fr105 dX1_taken_28 q846 (Or.inl rfl) (fun σ8 => ?_)
  refine zst_ (gj_aload_n 0 (pc := 31) dX1_taken_31 rfl) ?_
  intro h
  cases h
  have hk : (0, zr v2, σ8) = out := hk
  subst hk
  exact gj_aret (pc := 32) dX1_taken_32 rfl (Or.inl ⟨_, rfl⟩)
theorem q109 : (Jvm.Cond.initialized "LassoFinder$Reader") ∈ lw_all := lw_g (lw_at lw_m1 9 rfl) rfl
theorem q694 : (Jvm.Cond.fieldLink "LassoFinder$Reader" (11 : Nat) "LassoFinder$Reader" "text" "Ljava/lang/String;") ∈ lw_all := lw_g (lw_at lw_m3 114 rfl) rfl
theorem q699 : (Jvm.Cond.fieldLink "LassoFinder$Reader" (21 : Nat) "LassoFinder$Reader" "at" "I") ∈ lw_all := lw_g (lw_at lw_m3 119 rfl) rfl
theorem q1041 : (Jvm.Cond.code ({ cls := "LassoFinder$Reader", name := "begin", desc := "(Ljava/lang/String;)V" } : Jvm.MethodName) prog_16_method_2_code (2 : Nat) (Option.none : Option Jvm.ClassFile.FieldType)) ∈ lw_all := lw_g (lw_at lw_m4 221 rfl) rfl
theorem fl501 : zfl 501 2 "LassoFinder$Reader" "text" "Ljava/lang/String;" false := ⟨rfl, rfl, rfl⟩
theorem fr501 {g : zG} {v : Int} : zok g (2, v) → zokt g (zft 501) v := fun h => h
theorem fl502 : zfl 502 0 "LassoFinder$Reader" "at" "I" false := ⟨rfl, rfl, rfl⟩
theorem fr502 {g : zG} {v : Int} : zok g (0, v) → zokt g (zft 502) v := fun h => h
abbrev cX5_begin : ByteArray := prog_16_method_2_code
def yX5_begin : MethodName := ⟨RX5, "begin", "(Ljava/lang/String;)V"⟩
theorem dX5_begin_0 : decode cX5_begin 0 = .ok (.aload_n 0, 1) := by decide +kernel
theorem dX5_begin_1 : decode cX5_begin 1 = .ok (.aload_n 1, 1) := by decide +kernel
theorem dX5_begin_2 : decode cX5_begin 2 = .ok (.putfield 11, 3) := by decide +kernel
theorem dX5_begin_5 : decode cX5_begin 5 = .ok (.aload_n 0, 1) := by decide +kernel
theorem dX5_begin_6 : decode cX5_begin 6 = .ok (.iconst 0, 1) := by decide +kernel
theorem dX5_begin_7 : decode cX5_begin 7 = .ok (.putfield 21, 3) := by decide +kernel
theorem dX5_begin_10 : decode cX5_begin 10 = .ok (.return_, 1) := by decide +kernel
abbrev MX5_begin : zT := (yX5_begin, cX5_begin, 2, (Option.none : Option Jvm.ClassFile.FieldType), [])
theorem plX5_begin : zplain MX5_begin 1 ∧ (zcodeW MX5_begin ∈ lw_all ∧ Cond.initialized MX5_begin.1.cls ∈ lw_all) := ⟨⟨by decide +kernel, by decide +kernel⟩, q1041, q109⟩
noncomputable def f_X5_begin (x0 x1 : Int) (σ : zM) : Option zO :=
  (zpf σ 501 x0 x1).bind fun σ1 =>
  (zpf σ1 502 x0 0).bind fun σ2 =>
  some (0, ((3, 0) : zV), σ2)
theorem c_X5_begin {g : zG} {lv : Nat} {x0 x1 : Int} {σ : zM} {out : zO} (h : f_X5_begin x0 x1 σ = some out) : Cj g (lv) MX5_begin [zr x0, zr x1] σ out := by
  refine cj_go (ls := [(0, zr x0), (1, zr x1)]) (by decide) (Nat.le_of_ble_eq_true rfl) rfl (zgen h (fun r hk => ?_))
  unfold f_X5_begin
  refine zst_ (gj_aload_n 0 (pc := 0) dX5_begin_0 rfl) ?_
  refine zst_ (gj_aload_n 1 (pc := 1) dX5_begin_1 rfl) ?_
  refine gb_put (pc := 2) fl501 fr501 dX5_begin_2 q694 (Or.inl rfl) (fun σ1 => ?_)
  refine zst_ (gj_aload_n 0 (pc := 5) dX5_begin_5 rfl) ?_
  refine zst_ (gj_iconst (pc := 6) dX5_begin_6 (by decide)) ?_
  refine gb_put (pc := 7) fl502 fr502 dX5_begin_7 q699 (Or.inl rfl) (fun σ2 => ?_)
  intro h
  cases h
  have hk : (0, ((3, 0) : zV), σ2) = out := hk
  subst hk
  exact gj_vret (pc := 10) dX5_begin_10 rfl
theorem q106 : (Jvm.Cond.initialized "LassoFinder$Model") ∈ lw_all := lw_g (lw_at lw_m1 6 rfl) rfl
theorem q268 : (Jvm.Cond.fieldLink "LassoFinder$Model" (9 : Nat) "LassoFinder$Model" "sorts" "[I") ∈ lw_all := lw_g (lw_at lw_m1 168 rfl) rfl
theorem q273 : (Jvm.Cond.fieldLink "LassoFinder$Model" (73 : Nat) "LassoFinder$Model" "variables" "I") ∈ lw_all := lw_g (lw_at lw_m1 173 rfl) rfl
theorem q275 : (Jvm.Cond.fieldLink "LassoFinder$Model" (77 : Nat) "LassoFinder$Model" "channels" "I") ∈ lw_all := lw_g (lw_at lw_m1 175 rfl) rfl
theorem q277 : (Jvm.Cond.fieldLink "LassoFinder$Model" (80 : Nat) "LassoFinder$Model" "processes" "I") ∈ lw_all := lw_g (lw_at lw_m1 177 rfl) rfl
theorem q281 : (Jvm.Cond.fieldLink "LassoFinder$Model" (83 : Nat) "LassoFinder$Model" "basics" "I") ∈ lw_all := lw_g (lw_at lw_m1 181 rfl) rfl
theorem q312 : (Jvm.Cond.fieldLink "LassoFinder$Model" (86 : Nat) "LassoFinder$Model" "many" "I") ∈ lw_all := lw_g (lw_at lw_m1 212 rfl) rfl
theorem q315 : (Jvm.Cond.fieldLink "LassoFinder$Model" (89 : Nat) "LassoFinder$Model" "made" "I") ∈ lw_all := lw_g (lw_at lw_m1 215 rfl) rfl
theorem q1049 : (Jvm.Cond.code ({ cls := "LassoFinder$Model", name := "clear", desc := "()V" } : Jvm.MethodName) prog_9_method_2_code (2 : Nat) (Option.none : Option Jvm.ClassFile.FieldType)) ∈ lw_all := lw_g (lw_at lw_m4 229 rfl) rfl
theorem fl200 : zfl 200 2 "LassoFinder$Model" "sorts" "[I" true := ⟨rfl, rfl, rfl⟩
theorem fr200 {g : zG} {v : Int} : zok g (2, v) → zokt g (zft 200) v := fun h => h
theorem fl202 : zfl 202 0 "LassoFinder$Model" "variables" "I" false := ⟨rfl, rfl, rfl⟩
theorem fr202 {g : zG} {v : Int} : zok g (0, v) → zokt g (zft 202) v := fun h => h
theorem fl203 : zfl 203 0 "LassoFinder$Model" "channels" "I" false := ⟨rfl, rfl, rfl⟩
theorem fr203 {g : zG} {v : Int} : zok g (0, v) → zokt g (zft 203) v := fun h => h
theorem fl204 : zfl 204 0 "LassoFinder$Model" "processes" "I" false := ⟨rfl, rfl, rfl⟩
theorem fr204 {g : zG} {v : Int} : zok g (0, v) → zokt g (zft 204) v := fun h => h
theorem fl205 : zfl 205 0 "LassoFinder$Model" "basics" "I" false := ⟨rfl, rfl, rfl⟩
theorem fr205 {g : zG} {v : Int} : zok g (0, v) → zokt g (zft 205) v := fun h => h
theorem fl220 : zfl 220 0 "LassoFinder$Model" "many" "I" false := ⟨rfl, rfl, rfl⟩
theorem fr220 {g : zG} {v : Int} : zok g (0, v) → zokt g (zft 220) v := fun h => h
theorem fl221 : zfl 221 0 "LassoFinder$Model" "made" "I" false := ⟨rfl, rfl, rfl⟩
theorem fr221 {g : zG} {v : Int} : zok g (0, v) → zokt g (zft 221) v := fun h => h
abbrev cX2_clear : ByteArray := prog_9_method_2_code
def yX2_clear : MethodName := ⟨RX2, "clear", "()V"⟩
theorem dX2_clear_0 : decode cX2_clear 0 = .ok (.iconst 0, 1) := by decide +kernel
theorem dX2_clear_1 : decode cX2_clear 1 = .ok (.istore_n 1, 1) := by decide +kernel
theorem dX2_clear_2 : decode cX2_clear 2 = .ok (.iload_n 1, 1) := by decide +kernel
theorem dX2_clear_3 : decode cX2_clear 3 = .ok (.bipush 8, 2) := by decide +kernel
theorem dX2_clear_5 : decode cX2_clear 5 = .ok (.if_icmp .ge 16, 3) := by decide +kernel
theorem dX2_clear_8 : decode cX2_clear 8 = .ok (.aload_n 0, 1) := by decide +kernel
theorem dX2_clear_9 : decode cX2_clear 9 = .ok (.getfield 9, 3) := by decide +kernel
theorem dX2_clear_12 : decode cX2_clear 12 = .ok (.iload_n 1, 1) := by decide +kernel
theorem dX2_clear_13 : decode cX2_clear 13 = .ok (.iconst 0, 1) := by decide +kernel
theorem dX2_clear_14 : decode cX2_clear 14 = .ok (.iastore, 1) := by decide +kernel
theorem dX2_clear_15 : decode cX2_clear 15 = .ok (.iinc 1 1, 3) := by decide +kernel
theorem dX2_clear_18 : decode cX2_clear 18 = .ok (.goto (-16), 3) := by decide +kernel
theorem dX2_clear_21 : decode cX2_clear 21 = .ok (.aload_n 0, 1) := by decide +kernel
theorem dX2_clear_22 : decode cX2_clear 22 = .ok (.iconst 0, 1) := by decide +kernel
theorem dX2_clear_23 : decode cX2_clear 23 = .ok (.putfield 73, 3) := by decide +kernel
theorem dX2_clear_26 : decode cX2_clear 26 = .ok (.aload_n 0, 1) := by decide +kernel
theorem dX2_clear_27 : decode cX2_clear 27 = .ok (.iconst 0, 1) := by decide +kernel
theorem dX2_clear_28 : decode cX2_clear 28 = .ok (.putfield 77, 3) := by decide +kernel
theorem dX2_clear_31 : decode cX2_clear 31 = .ok (.aload_n 0, 1) := by decide +kernel
theorem dX2_clear_32 : decode cX2_clear 32 = .ok (.iconst 0, 1) := by decide +kernel
theorem dX2_clear_33 : decode cX2_clear 33 = .ok (.putfield 80, 3) := by decide +kernel
theorem dX2_clear_36 : decode cX2_clear 36 = .ok (.aload_n 0, 1) := by decide +kernel
theorem dX2_clear_37 : decode cX2_clear 37 = .ok (.iconst 0, 1) := by decide +kernel
theorem dX2_clear_38 : decode cX2_clear 38 = .ok (.putfield 83, 3) := by decide +kernel
theorem dX2_clear_41 : decode cX2_clear 41 = .ok (.aload_n 0, 1) := by decide +kernel
theorem dX2_clear_42 : decode cX2_clear 42 = .ok (.iconst 0, 1) := by decide +kernel
theorem dX2_clear_43 : decode cX2_clear 43 = .ok (.putfield 86, 3) := by decide +kernel
theorem dX2_clear_46 : decode cX2_clear 46 = .ok (.aload_n 0, 1) := by decide +kernel
theorem dX2_clear_47 : decode cX2_clear 47 = .ok (.iconst 0, 1) := by decide +kernel
theorem dX2_clear_48 : decode cX2_clear 48 = .ok (.putfield 89, 3) := by decide +kernel
theorem dX2_clear_51 : decode cX2_clear 51 = .ok (.return_, 1) := by decide +kernel
abbrev MX2_clear : zT := (yX2_clear, cX2_clear, 2, (Option.none : Option Jvm.ClassFile.FieldType), [])
theorem plX2_clear : zplain MX2_clear 0 ∧ (zcodeW MX2_clear ∈ lw_all ∧ Cond.initialized MX2_clear.1.cls ∈ lw_all) := ⟨⟨by decide +kernel, by decide +kernel⟩, q1049, q106⟩
noncomputable def f_X2_clear_21 (x0 : Int) (σ : zM) : Option zO :=
  (zpf σ 202 x0 0).bind fun σ1 =>
  (zpf σ1 203 x0 0).bind fun σ2 =>
  (zpf σ2 204 x0 0).bind fun σ3 =>
  (zpf σ3 205 x0 0).bind fun σ4 =>
  (zpf σ4 220 x0 0).bind fun σ5 =>
  (zpf σ5 221 x0 0).bind fun σ6 =>
  some (0, ((3, 0) : zV), σ6)
theorem w_X2_clear_21 {g : zG} {lv : Nat} {out : zO} (x0 : Int) (σ : zM) {r : zO} (h : f_X2_clear_21 x0 σ = some r) (hk : (fun o : zO => o = out) r) : Gj g MX2_clear (lv) 21 [(0, zr x0)] [] σ out := by
  revert h
  unfold f_X2_clear_21
  refine zst_ (gj_aload_n 0 (pc := 21) dX2_clear_21 rfl) ?_
  refine zst_ (gj_iconst (pc := 22) dX2_clear_22 (by decide)) ?_
  refine gb_put (pc := 23) fl202 fr202 dX2_clear_23 q273 (Or.inl rfl) (fun σ1 => ?_)
  refine zst_ (gj_aload_n 0 (pc := 26) dX2_clear_26 rfl) ?_
  refine zst_ (gj_iconst (pc := 27) dX2_clear_27 (by decide)) ?_
  refine gb_put (pc := 28) fl203 fr203 dX2_clear_28 q275 (Or.inl rfl) (fun σ2 => ?_)
  refine zst_ (gj_aload_n 0 (pc := 31) dX2_clear_31 rfl) ?_
  refine zst_ (gj_iconst (pc := 32) dX2_clear_32 (by decide)) ?_
  refine gb_put (pc := 33) fl204 fr204 dX2_clear_33 q277 (Or.inl rfl) (fun σ3 => ?_)
  refine zst_ (gj_aload_n 0 (pc := 36) dX2_clear_36 rfl) ?_
  refine zst_ (gj_iconst (pc := 37) dX2_clear_37 (by decide)) ?_
  refine gb_put (pc := 38) fl205 fr205 dX2_clear_38 q281 (Or.inl rfl) (fun σ4 => ?_)
  refine zst_ (gj_aload_n 0 (pc := 41) dX2_clear_41 rfl) ?_
  refine zst_ (gj_iconst (pc := 42) dX2_clear_42 (by decide)) ?_
  refine gb_put (pc := 43) fl220 fr220 dX2_clear_43 q312 (Or.inl rfl) (fun σ5 => ?_)
  refine zst_ (gj_aload_n 0 (pc := 46) dX2_clear_46 rfl) ?_
  refine zst_ (gj_iconst (pc := 47) dX2_clear_47 (by decide)) ?_
  refine gb_put (pc := 48) fl221 fr221 dX2_clear_48 q315 (Or.inl rfl) (fun σ6 => ?_)
  intro h
  cases h
  have hk : (0, ((3, 0) : zV), σ6) = out := hk
  subst hk
  exact gj_vret (pc := 51) dX2_clear_51 rfl
noncomputable def f_X2_clear_2_b (x0 x1 : Int) (σ : zM) : Option ((Int × zM) ⊕ zO) :=
  if 8 ≤ x1 then
    (f_X2_clear_21 x0 σ).map (fun r => (.inr r))
  else
    (zgf σ 200 x0).bind fun v1 =>
    (zpa σ 101 v1 x1 0).bind fun σ2 =>
    zlet (zadd x1 1) fun y3 =>
    some (.inl (y3, σ2))
noncomputable def f_X2_clear_2 (x0 x1 : Int) (σ : zM) : Option zO :=
  zloop (fun s : Int × zM => f_X2_clear_2_b x0 s.1 s.2) (x1, σ)
theorem w_X2_clear_2_b {g : zG} {lv : Nat} {out : zO} (x0 x1 : Int) (σ : zM) {r : ((Int × zM) ⊕ zO)} (h : f_X2_clear_2_b x0 x1 σ = some r) (hk : (zKL (fun s : Int × zM => Gj g MX2_clear (lv) 2 [(0, zr x0), (1, zi s.1)] [] s.2 out) (fun o : zO => o = out)) r) : Gj g MX2_clear (lv) 2 [(0, zr x0), (1, zi x1)] [] σ out := by
  revert h
  unfold f_X2_clear_2_b
  refine zst_ (gj_iload_n 1 (pc := 2) dX2_clear_2 rfl) ?_
  refine zst_ (gj_bipush (pc := 3) dX2_clear_3 ⟨rfl, by decide⟩) ?_
  refine gb_if (gj_icmp_ge 21 (pc := 5) dX2_clear_5 (by decide)) ?_ ?_
  · refine zst_ (gj_sub [0] rfl) ?_
    intro h
    obtain ⟨r0, h0, rfl⟩ := zmE h
    exact w_X2_clear_21 x0 σ h0 hk
  · refine zst_ (gj_aload_n 0 (pc := 8) dX2_clear_8 rfl) ?_
    refine gb_get (pc := 9) fl200 dX2_clear_9 q268 (Or.inl rfl) (fun v1 => ?_)
    refine zst_ (gj_iload_n 1 (pc := 12) dX2_clear_12 rfl) ?_
    refine zst_ (gj_iconst (pc := 13) dX2_clear_13 (by decide)) ?_
    refine gb_iast (pc := 14) dX2_clear_14 (fun σ2 => ?_)
    refine gb_iinc (pc := 15) 1 (fun y3 => [(1, zi y3), (0, zr x0)]) dX2_clear_15 rfl (by decide) (fun _ => rfl) (fun y3 => ?_)
    refine zst_ (gj_goto 2 (pc := 18) dX2_clear_18 (by decide)) ?_
    refine zst_ (gj_sub [1, 0] rfl) ?_
    intro h
    cases h
    exact hk
theorem w_X2_clear_2 {g : zG} {lv : Nat} {out : zO} (x0 x1 : Int) (σ : zM) {r : zO} (h : f_X2_clear_2 x0 x1 σ = some r) (hk : (fun o : zO => o = out) r) : Gj g MX2_clear (lv) 2 [(0, zr x0), (1, zi x1)] [] σ out :=
  gj_loop (P := (fun s : Int × zM => Gj g MX2_clear (lv) 2 [(0, zr x0), (1, zi s.1)] [] s.2 out)) (fun s x hb hx => w_X2_clear_2_b x0 s.1 s.2 hb hx) h hk
noncomputable def f_X2_clear (x0 : Int) (σ : zM) : Option zO :=
  f_X2_clear_2 x0 0 σ
theorem c_X2_clear {g : zG} {lv : Nat} {x0 : Int} {σ : zM} {out : zO} (h : f_X2_clear x0 σ = some out) : Cj g (lv) MX2_clear [zr x0] σ out := by
  refine cj_go (ls := [(0, zr x0)]) (by decide) (Nat.le_of_ble_eq_true rfl) rfl (zgen h (fun r hk => ?_))
  unfold f_X2_clear
  refine zst_ (gj_iconst (pc := 0) dX2_clear_0 (by decide)) ?_
  refine zst_ (gj_istore_n (pc := 1) (ls' := [(1, zi 0), (0, zr x0)]) dX2_clear_1 (by decide) rfl) ?_
  refine zst_ (gj_sub [1, 0] rfl) ?_
  exact fun h => w_X2_clear_2 x0 0 σ h hk
theorem q520 : (Jvm.Cond.code ({ cls := "java/lang/String", name := "coder", desc := "()B" } : Jvm.MethodName) prog_37_method_152_code (1 : Nat) (Option.some Jvm.ClassFile.FieldType.byte)) ∈ lw_all := lw_g (lw_at lw_m2 180 rfl) rfl
abbrev cJ2_coder : ByteArray := prog_37_method_152_code
def yJ2_coder : MethodName := ⟨RJ2, "coder", "()B"⟩
theorem dJ2_coder_0 : decode cJ2_coder 0 = .ok (.getstatic 38, 3) := by decide +kernel
theorem dJ2_coder_3 : decode cJ2_coder 3 = .ok (.ifCond .eq 10, 3) := by decide +kernel
theorem dJ2_coder_6 : decode cJ2_coder 6 = .ok (.aload_n 0, 1) := by decide +kernel
theorem dJ2_coder_7 : decode cJ2_coder 7 = .ok (.getfield 15, 3) := by decide +kernel
theorem dJ2_coder_10 : decode cJ2_coder 10 = .ok (.goto 4, 3) := by decide +kernel
theorem dJ2_coder_13 : decode cJ2_coder 13 = .ok (.iconst 1, 1) := by decide +kernel
theorem dJ2_coder_14 : decode cJ2_coder 14 = .ok (.ireturn, 1) := by decide +kernel
abbrev MJ2_coder : zT := (yJ2_coder, cJ2_coder, 1, (Option.some Jvm.ClassFile.FieldType.byte), [])
theorem plJ2_coder : zplain MJ2_coder 0 ∧ (zcodeW MJ2_coder ∈ lw_all ∧ Cond.initialized MJ2_coder.1.cls ∈ lw_all) := ⟨⟨by decide +kernel, by decide +kernel⟩, q520, q104⟩
noncomputable def f_J2_coder_14 (t0 : Int) (σ : zM) : Option zO :=
  zgd (zby t0) <|
  some (0, zi t0, σ)
theorem w_J2_coder_14 {g : zG} {lv : Nat} {out : zO} (t0 : Int) (σ : zM) {r : zO} (h : f_J2_coder_14 t0 σ = some r) (hk : (fun o : zO => o = out) r) : Gj g MJ2_coder (lv) 14 [] [zi t0] σ out := by
  revert h
  unfold f_J2_coder_14
  refine gb_gd (fun hb => ?_)
  intro h
  cases h
  have hk : (0, zi t0, σ) = out := hk
  subst hk
  exact gj_ret (pc := 14) (t := .byte) dJ2_coder_14 rfl ⟨rfl, rfl⟩ (fun _ => zbyE hb)
noncomputable def f_J2_coder (x0 : Int) (σ : zM) : Option zO :=
  if (1 : Int) = 0 then
    f_J2_coder_14 1 σ
  else
    (zgf σ 2101 x0).bind fun v1 =>
    f_J2_coder_14 v1 σ
theorem c_J2_coder {g : zG} {lv : Nat} {x0 : Int} {σ : zM} {out : zO} (h : f_J2_coder x0 σ = some out) : Cj g (lv) MJ2_coder [zr x0] σ out := by
  refine cj_go (ls := [(0, zr x0)]) (by decide) (Nat.le_of_ble_eq_true rfl) rfl (zgen h (fun r hk => ?_))
  unfold f_J2_coder
  refine zst_ (gj_compact (pc := 0) dJ2_coder_0 q521) ?_
  refine gb_if (gj_if_eq 13 (pc := 3) dJ2_coder_3 (by decide)) ?_ ?_
  · refine zst_ (gj_iconst (pc := 13) dJ2_coder_13 (by decide)) ?_
    refine zst_ (gj_sub [] rfl) ?_
    exact fun h => w_J2_coder_14 1 σ h hk
  · refine zst_ (gj_aload_n 0 (pc := 6) dJ2_coder_6 rfl) ?_
    refine gb_get (pc := 7) fl2101 dJ2_coder_7 q663 (Or.inl rfl) (fun v1 => ?_)
    refine zst_ (gj_goto 14 (pc := 10) dJ2_coder_10 (by decide)) ?_
    refine zst_ (gj_sub [] rfl) ?_
    exact fun h => w_J2_coder_14 v1 σ h hk
theorem q516 : (Jvm.Cond.code ({ cls := "java/lang/String", name := "length", desc := "()I" } : Jvm.MethodName) prog_37_method_54_code (1 : Nat) (Option.some Jvm.ClassFile.FieldType.int)) ∈ lw_all := lw_g (lw_at lw_m2 176 rfl) rfl
theorem q517 : (Jvm.Cond.methodLink "java/lang/String" (335 : Nat) ({ cls := "java/lang/String", name := "coder", desc := "()B" } : Jvm.MethodName)) ∈ lw_all := lw_g (lw_at lw_m2 177 rfl) rfl
theorem q518 : (Jvm.Cond.instanceMethod ({ cls := "java/lang/String", name := "coder", desc := "()B" } : Jvm.MethodName)) ∈ lw_all := lw_g (lw_at lw_m2 178 rfl) rfl
theorem q519 : (Jvm.Cond.selects "java/lang/String" ({ cls := "java/lang/String", name := "coder", desc := "()B" } : Jvm.MethodName) ({ cls := "java/lang/String", name := "coder", desc := "()B" } : Jvm.MethodName)) ∈ lw_all := lw_g (lw_at lw_m2 179 rfl) rfl
abbrev cJ2_length : ByteArray := prog_37_method_54_code
def yJ2_length : MethodName := ⟨RJ2, "length", "()I"⟩
theorem dJ2_length_0 : decode cJ2_length 0 = .ok (.aload_n 0, 1) := by decide +kernel
theorem dJ2_length_1 : decode cJ2_length 1 = .ok (.getfield 9, 3) := by decide +kernel
theorem dJ2_length_4 : decode cJ2_length 4 = .ok (.arraylength, 1) := by decide +kernel
theorem dJ2_length_5 : decode cJ2_length 5 = .ok (.aload_n 0, 1) := by decide +kernel
theorem dJ2_length_6 : decode cJ2_length 6 = .ok (.invokevirtual 335, 3) := by decide +kernel
theorem dJ2_length_9 : decode cJ2_length 9 = .ok (.ishr, 1) := by decide +kernel
theorem dJ2_length_10 : decode cJ2_length 10 = .ok (.ireturn, 1) := by decide +kernel
abbrev MJ2_length : zT := (yJ2_length, cJ2_length, 1, (Option.some Jvm.ClassFile.FieldType.int), [])
theorem plJ2_length : zplain MJ2_length 0 ∧ (zcodeW MJ2_length ∈ lw_all ∧ Cond.initialized MJ2_length.1.cls ∈ lw_all) := ⟨⟨by decide +kernel, by decide +kernel⟩, q516, q104⟩
noncomputable def f_J2_length (x0 : Int) (σ : zM) : Option zO :=
  (zgf σ 2100 x0).bind fun v1 =>
  (zla σ 104 v1).bind fun v2 =>
  zgd (zis σ 22 x0) <|
  zci (f_J2_coder x0 σ) fun v3 σ4 =>
  some (0, zi (zshr v2 v3), σ4)
theorem c_J2_length {g : zG} {lv : Nat} {x0 : Int} {σ : zM} {out : zO} (h : f_J2_length x0 σ = some out) : Cj g (lv + 1) MJ2_length [zr x0] σ out := by
  refine cj_go (ls := [(0, zr x0)]) (by decide) (Nat.le_of_ble_eq_true rfl) rfl (zgen h (fun r hk => ?_))
  unfold f_J2_length
  refine zst_ (gj_aload_n 0 (pc := 0) dJ2_length_0 rfl) ?_
  refine gb_get (pc := 1) fl2100 dJ2_length_1 q662 (Or.inl rfl) (fun v1 => ?_)
  refine gb_alen (pc := 4) (k := 104) (by decide) dJ2_length_4 (fun v2 => ?_)
  refine zst_ (gj_aload_n 0 (pc := 5) dJ2_length_5 rfl) ?_
  refine gb_gd (fun hb => ?_)
  refine gb_callI (pc := 6) (as := [zr x0]) (rest := [zi v2]) (zCl.of (zLk_V (M := MJ2_length) (ci := 21) (r := (RJ2, TJ2, 4)) plJ2_coder.1 rfl rfl (zisE hb).1 (zisE hb).2 dJ2_length_6 q517 q518 q519 q520) plJ2_coder (Nat.le_of_ble_eq_true rfl) (fun h => c_J2_coder h)) (fun v3 σ4 => ?_)
  refine zst_ (gj_ishr (pc := 9) dJ2_length_9) ?_
  intro h
  cases h
  have hk : (0, zi (zshr v2 v3), σ4) = out := hk
  subst hk
  exact gj_ret (pc := 10) (t := .int) dJ2_length_10 rfl ⟨rfl, rfl⟩ (fun h => h)
theorem q1064 : (Jvm.Cond.code ({ cls := "java/lang/String", name := "isLatin1", desc := "()Z" } : Jvm.MethodName) prog_37_method_154_code (1 : Nat) (Option.some Jvm.ClassFile.FieldType.boolean)) ∈ lw_all := lw_g (lw_at lw_m5 4 rfl) rfl
abbrev cJ2_isLatin1 : ByteArray := prog_37_method_154_code
def yJ2_isLatin1 : MethodName := ⟨RJ2, "isLatin1", "()Z"⟩
theorem dJ2_isLatin1_0 : decode cJ2_isLatin1 0 = .ok (.getstatic 38, 3) := by decide +kernel
theorem dJ2_isLatin1_3 : decode cJ2_isLatin1 3 = .ok (.ifCond .eq 14, 3) := by decide +kernel
theorem dJ2_isLatin1_6 : decode cJ2_isLatin1 6 = .ok (.aload_n 0, 1) := by decide +kernel
theorem dJ2_isLatin1_7 : decode cJ2_isLatin1 7 = .ok (.getfield 15, 3) := by decide +kernel
theorem dJ2_isLatin1_10 : decode cJ2_isLatin1 10 = .ok (.ifCond .ne 7, 3) := by decide +kernel
theorem dJ2_isLatin1_13 : decode cJ2_isLatin1 13 = .ok (.iconst 1, 1) := by decide +kernel
theorem dJ2_isLatin1_14 : decode cJ2_isLatin1 14 = .ok (.goto 4, 3) := by decide +kernel
theorem dJ2_isLatin1_17 : decode cJ2_isLatin1 17 = .ok (.iconst 0, 1) := by decide +kernel
theorem dJ2_isLatin1_18 : decode cJ2_isLatin1 18 = .ok (.ireturn, 1) := by decide +kernel
abbrev MJ2_isLatin1 : zT := (yJ2_isLatin1, cJ2_isLatin1, 1, (Option.some Jvm.ClassFile.FieldType.boolean), [])
theorem plJ2_isLatin1 : zplain MJ2_isLatin1 0 ∧ (zcodeW MJ2_isLatin1 ∈ lw_all ∧ Cond.initialized MJ2_isLatin1.1.cls ∈ lw_all) := ⟨⟨by decide +kernel, by decide +kernel⟩, q1064, q104⟩
noncomputable def f_J2_isLatin1_18 (t0 : Int) (σ : zM) : Option zO :=
  zgd (z01 t0) <|
  some (0, zi t0, σ)
theorem w_J2_isLatin1_18 {g : zG} {lv : Nat} {out : zO} (t0 : Int) (σ : zM) {r : zO} (h : f_J2_isLatin1_18 t0 σ = some r) (hk : (fun o : zO => o = out) r) : Gj g MJ2_isLatin1 (lv) 18 [] [zi t0] σ out := by
  revert h
  unfold f_J2_isLatin1_18
  refine gb_gd (fun hb => ?_)
  intro h
  cases h
  have hk : (0, zi t0, σ) = out := hk
  subst hk
  exact gj_ret (pc := 18) (t := .boolean) dJ2_isLatin1_18 rfl ⟨rfl, rfl⟩ (fun _ => z01E hb)
noncomputable def f_J2_isLatin1_17 (σ : zM) : Option zO :=
  f_J2_isLatin1_18 0 σ
theorem w_J2_isLatin1_17 {g : zG} {lv : Nat} {out : zO} (σ : zM) {r : zO} (h : f_J2_isLatin1_17  σ = some r) (hk : (fun o : zO => o = out) r) : Gj g MJ2_isLatin1 (lv) 17 [] [] σ out := by
  revert h
  unfold f_J2_isLatin1_17
  refine zst_ (gj_iconst (pc := 17) dJ2_isLatin1_17 (by decide)) ?_
  exact fun h => w_J2_isLatin1_18 0 σ h hk
noncomputable def f_J2_isLatin1 (x0 : Int) (σ : zM) : Option zO :=
  if (1 : Int) = 0 then
    f_J2_isLatin1_17 σ
  else
    (zgf σ 2101 x0).bind fun v1 =>
    if v1 ≠ 0 then
      f_J2_isLatin1_17 σ
    else
      f_J2_isLatin1_18 1 σ
theorem c_J2_isLatin1 {g : zG} {lv : Nat} {x0 : Int} {σ : zM} {out : zO} (h : f_J2_isLatin1 x0 σ = some out) : Cj g (lv) MJ2_isLatin1 [zr x0] σ out := by
  refine cj_go (ls := [(0, zr x0)]) (by decide) (Nat.le_of_ble_eq_true rfl) rfl (zgen h (fun r hk => ?_))
  unfold f_J2_isLatin1
  refine zst_ (gj_compact (pc := 0) dJ2_isLatin1_0 q521) ?_
  refine gb_if (gj_if_eq 17 (pc := 3) dJ2_isLatin1_3 (by decide)) ?_ ?_
  · refine zst_ (gj_sub [] rfl) ?_
    exact fun h => w_J2_isLatin1_17 σ h hk
  · refine zst_ (gj_aload_n 0 (pc := 6) dJ2_isLatin1_6 rfl) ?_
    refine gb_get (pc := 7) fl2101 dJ2_isLatin1_7 q663 (Or.inl rfl) (fun v1 => ?_)
    refine gb_if (gj_if_ne 17 (pc := 10) dJ2_isLatin1_10 (by decide)) ?_ ?_
    · refine zst_ (gj_sub [] rfl) ?_
      exact fun h => w_J2_isLatin1_17 σ h hk
    · refine zst_ (gj_iconst (pc := 13) dJ2_isLatin1_13 (by decide)) ?_
      refine zst_ (gj_goto 18 (pc := 14) dJ2_isLatin1_14 (by decide)) ?_
      refine zst_ (gj_sub [] rfl) ?_
      exact fun h => w_J2_isLatin1_18 1 σ h hk
theorem q122 : (Jvm.Cond.initialized "jdk/internal/util/Preconditions") ∈ lw_all := lw_g (lw_at lw_m1 22 rfl) rfl
theorem q904 : (Jvm.Cond.code ({ cls := "jdk/internal/util/Preconditions", name := "checkIndex", desc := "(IILjava/util/function/BiFunction;)I" } : Jvm.MethodName) prog_55_method_11_code (3 : Nat) (Option.some Jvm.ClassFile.FieldType.int)) ∈ lw_all := lw_g (lw_at lw_m4 84 rfl) rfl
abbrev cJ14_checkIndex : ByteArray := prog_55_method_11_code
def yJ14_checkIndex : MethodName := ⟨RJ14, "checkIndex", "(IILjava/util/function/BiFunction;)I"⟩
theorem dJ14_checkIndex_0 : decode cJ14_checkIndex 0 = .ok (.iload_n 0, 1) := by decide +kernel
theorem dJ14_checkIndex_1 : decode cJ14_checkIndex 1 = .ok (.ifCond .lt 8, 3) := by decide +kernel
theorem dJ14_checkIndex_4 : decode cJ14_checkIndex 4 = .ok (.iload_n 0, 1) := by decide +kernel
theorem dJ14_checkIndex_5 : decode cJ14_checkIndex 5 = .ok (.iload_n 1, 1) := by decide +kernel
theorem dJ14_checkIndex_6 : decode cJ14_checkIndex 6 = .ok (.if_icmp .lt 10, 3) := by decide +kernel
theorem dJ14_checkIndex_9 : decode cJ14_checkIndex 9 = .ok (.aload_n 2, 1) := by decide +kernel
theorem dJ14_checkIndex_10 : decode cJ14_checkIndex 10 = .ok (.iload_n 0, 1) := by decide +kernel
theorem dJ14_checkIndex_11 : decode cJ14_checkIndex 11 = .ok (.iload_n 1, 1) := by decide +kernel
theorem dJ14_checkIndex_12 : decode cJ14_checkIndex 12 = .ok (.invokestatic 95, 3) := by decide +kernel
theorem dJ14_checkIndex_15 : decode cJ14_checkIndex 15 = .ok (.athrow, 1) := by decide +kernel
theorem dJ14_checkIndex_16 : decode cJ14_checkIndex 16 = .ok (.iload_n 0, 1) := by decide +kernel
theorem dJ14_checkIndex_17 : decode cJ14_checkIndex 17 = .ok (.ireturn, 1) := by decide +kernel
abbrev MJ14_checkIndex : zT := (yJ14_checkIndex, cJ14_checkIndex, 3, (Option.some Jvm.ClassFile.FieldType.int), [])
theorem plJ14_checkIndex : zplain MJ14_checkIndex 3 ∧ (zcodeW MJ14_checkIndex ∈ lw_all ∧ Cond.initialized MJ14_checkIndex.1.cls ∈ lw_all) := ⟨⟨by decide +kernel, by decide +kernel⟩, q904, q122⟩
noncomputable def f_J14_checkIndex_9 (x0 x1 x2 : Int) (σ : zM) : Option zO :=
  none
theorem w_J14_checkIndex_9 {g : zG} {lv : Nat} {out : zO} (x0 x1 x2 : Int) (σ : zM) {r : zO} (h : f_J14_checkIndex_9 x0 x1 x2 σ = some r) (hk : (fun o : zO => o = out) r) : Gj g MJ14_checkIndex (lv) 9 [(0, zi x0), (1, zi x1), (2, zq x2)] [] σ out := by
  revert h
  unfold f_J14_checkIndex_9
  refine zst_ (gj_aloadQ_n 2 (pc := 9) dJ14_checkIndex_9 rfl) ?_
  refine zst_ (gj_iload_n 0 (pc := 10) dJ14_checkIndex_10 rfl) ?_
  refine zst_ (gj_iload_n 1 (pc := 11) dJ14_checkIndex_11 rfl) ?_
  exact (fun h => by cases h)
noncomputable def f_J14_checkIndex (x0 x1 x2 : Int) (σ : zM) : Option zO :=
  if x0 < 0 then
    f_J14_checkIndex_9 x0 x1 x2 σ
  else
    if x0 < x1 then
      some (0, zi x0, σ)
    else
      f_J14_checkIndex_9 x0 x1 x2 σ
theorem c_J14_checkIndex {g : zG} {lv : Nat} {x0 x1 x2 : Int} {σ : zM} {out : zO} (h : f_J14_checkIndex x0 x1 x2 σ = some out) : Cj g (lv) MJ14_checkIndex [zi x0, zi x1, zq x2] σ out := by
  refine cj_go (ls := [(0, zi x0), (1, zi x1), (2, zq x2)]) (by decide) (Nat.le_of_ble_eq_true rfl) rfl (zgen h (fun r hk => ?_))
  unfold f_J14_checkIndex
  refine zst_ (gj_iload_n 0 (pc := 0) dJ14_checkIndex_0 rfl) ?_
  refine gb_if (gj_if_lt 9 (pc := 1) dJ14_checkIndex_1 (by decide)) ?_ ?_
  · exact fun h => w_J14_checkIndex_9 x0 x1 x2 σ h hk
  · refine zst_ (gj_iload_n 0 (pc := 4) dJ14_checkIndex_4 rfl) ?_
    refine zst_ (gj_iload_n 1 (pc := 5) dJ14_checkIndex_5 rfl) ?_
    refine gb_if (gj_icmp_lt 16 (pc := 6) dJ14_checkIndex_6 (by decide)) ?_ ?_
    · refine zst_ (gj_iload_n 0 (pc := 16) dJ14_checkIndex_16 rfl) ?_
      intro h
      cases h
      have hk : (0, zi x0, σ) = out := hk
      subst hk
      exact gj_ret (pc := 17) (t := .int) dJ14_checkIndex_17 rfl ⟨rfl, rfl⟩ (fun h => h)
    · exact fun h => w_J14_checkIndex_9 x0 x1 x2 σ h hk
theorem q499 : (Jvm.Cond.fieldLink "java/lang/String" (1053 : Nat) "jdk/internal/util/Preconditions" "SIOOBE_FORMATTER" "Ljava/util/function/BiFunction;") ∈ lw_all := lw_g (lw_at lw_m2 159 rfl) rfl
theorem q901 : (Jvm.Cond.code ({ cls := "java/lang/String", name := "checkIndex", desc := "(II)V" } : Jvm.MethodName) prog_37_method_155_code (2 : Nat) (Option.none : Option Jvm.ClassFile.FieldType)) ∈ lw_all := lw_g (lw_at lw_m4 81 rfl) rfl
theorem q902 : (Jvm.Cond.methodLink "java/lang/String" (1059 : Nat) ({ cls := "jdk/internal/util/Preconditions", name := "checkIndex", desc := "(IILjava/util/function/BiFunction;)I" } : Jvm.MethodName)) ∈ lw_all := lw_g (lw_at lw_m4 82 rfl) rfl
theorem q903 : (Jvm.Cond.static ({ cls := "jdk/internal/util/Preconditions", name := "checkIndex", desc := "(IILjava/util/function/BiFunction;)I" } : Jvm.MethodName)) ∈ lw_all := lw_g (lw_at lw_m4 83 rfl) rfl
abbrev cJ2_checkIndex : ByteArray := prog_37_method_155_code
def yJ2_checkIndex : MethodName := ⟨RJ2, "checkIndex", "(II)V"⟩
theorem dJ2_checkIndex_0 : decode cJ2_checkIndex 0 = .ok (.iload_n 0, 1) := by decide +kernel
theorem dJ2_checkIndex_1 : decode cJ2_checkIndex 1 = .ok (.iload_n 1, 1) := by decide +kernel
theorem dJ2_checkIndex_2 : decode cJ2_checkIndex 2 = .ok (.getstatic 1053, 3) := by decide +kernel
theorem dJ2_checkIndex_5 : decode cJ2_checkIndex 5 = .ok (.invokestatic 1059, 3) := by decide +kernel
theorem dJ2_checkIndex_8 : decode cJ2_checkIndex 8 = .ok (.pop, 1) := by decide +kernel
theorem dJ2_checkIndex_9 : decode cJ2_checkIndex 9 = .ok (.return_, 1) := by decide +kernel
abbrev MJ2_checkIndex : zT := (yJ2_checkIndex, cJ2_checkIndex, 2, (Option.none : Option Jvm.ClassFile.FieldType), [])
theorem plJ2_checkIndex : zplain MJ2_checkIndex 2 ∧ (zcodeW MJ2_checkIndex ∈ lw_all ∧ Cond.initialized MJ2_checkIndex.1.cls ∈ lw_all) := ⟨⟨by decide +kernel, by decide +kernel⟩, q901, q104⟩
noncomputable def f_J2_checkIndex (x0 x1 : Int) (σ : zM) : Option zO :=
  zci (f_J14_checkIndex x0 x1 (-22) σ) fun v1 σ2 =>
  some (0, ((3, 0) : zV), σ2)
theorem c_J2_checkIndex {g : zG} {lv : Nat} {x0 x1 : Int} {σ : zM} {out : zO} (h : f_J2_checkIndex x0 x1 σ = some out) : Cj g (lv + 1) MJ2_checkIndex [zi x0, zi x1] σ out := by
  refine cj_go (ls := [(0, zi x0), (1, zi x1)]) (by decide) (Nat.le_of_ble_eq_true rfl) rfl (zgen h (fun r hk => ?_))
  unfold f_J2_checkIndex
  refine zst_ (gj_iload_n 0 (pc := 0) dJ2_checkIndex_0 rfl) ?_
  refine zst_ (gj_iload_n 1 (pc := 1) dJ2_checkIndex_1 rfl) ?_
  refine zst_ (gj_fmt (pc := 2) dJ2_checkIndex_2 q499) ?_
  refine gb_callI (pc := 5) (as := [zi x0, zi x1, zq (-22)]) (rest := []) (zCl.of (zLk_S (M := MJ2_checkIndex) plJ14_checkIndex.1 rfl dJ2_checkIndex_5 q902 q903 q122 q904) plJ14_checkIndex (Nat.le_of_ble_eq_true rfl) (fun h => c_J14_checkIndex h)) (fun v1 σ2 => ?_)
  refine zst_ (gj_pop (pc := 8) dJ2_checkIndex_8 rfl) ?_
  intro h
  cases h
  have hk : (0, ((3, 0) : zV), σ2) = out := hk
  subst hk
  exact gj_vret (pc := 9) dJ2_checkIndex_9 rfl
theorem q900 : (Jvm.Cond.static ({ cls := "java/lang/String", name := "checkIndex", desc := "(II)V" } : Jvm.MethodName)) ∈ lw_all := lw_g (lw_at lw_m4 80 rfl) rfl
theorem q1067 : (Jvm.Cond.code ({ cls := "java/lang/StringLatin1", name := "charAt", desc := "([BI)C" } : Jvm.MethodName) prog_40_method_2_code (2 : Nat) (Option.some Jvm.ClassFile.FieldType.char)) ∈ lw_all := lw_g (lw_at lw_m5 7 rfl) rfl
theorem q1068 : (Jvm.Cond.methodLink "java/lang/StringLatin1" (9 : Nat) ({ cls := "java/lang/String", name := "checkIndex", desc := "(II)V" } : Jvm.MethodName)) ∈ lw_all := lw_g (lw_at lw_m5 8 rfl) rfl
abbrev cJ15_charAt : ByteArray := prog_40_method_2_code
def yJ15_charAt : MethodName := ⟨RJ15, "charAt", "([BI)C"⟩
theorem dJ15_charAt_0 : decode cJ15_charAt 0 = .ok (.iload_n 1, 1) := by decide +kernel
theorem dJ15_charAt_1 : decode cJ15_charAt 1 = .ok (.aload_n 0, 1) := by decide +kernel
theorem dJ15_charAt_2 : decode cJ15_charAt 2 = .ok (.arraylength, 1) := by decide +kernel
theorem dJ15_charAt_3 : decode cJ15_charAt 3 = .ok (.invokestatic 9, 3) := by decide +kernel
theorem dJ15_charAt_6 : decode cJ15_charAt 6 = .ok (.aload_n 0, 1) := by decide +kernel
theorem dJ15_charAt_7 : decode cJ15_charAt 7 = .ok (.iload_n 1, 1) := by decide +kernel
theorem dJ15_charAt_8 : decode cJ15_charAt 8 = .ok (.baload, 1) := by decide +kernel
theorem dJ15_charAt_9 : decode cJ15_charAt 9 = .ok (.sipush 255, 3) := by decide +kernel
theorem dJ15_charAt_12 : decode cJ15_charAt 12 = .ok (.iand, 1) := by decide +kernel
theorem dJ15_charAt_13 : decode cJ15_charAt 13 = .ok (.i2c, 1) := by decide +kernel
theorem dJ15_charAt_14 : decode cJ15_charAt 14 = .ok (.ireturn, 1) := by decide +kernel
abbrev MJ15_charAt : zT := (yJ15_charAt, cJ15_charAt, 2, (Option.some Jvm.ClassFile.FieldType.char), [])
theorem plJ15_charAt : zplain MJ15_charAt 2 ∧ (zcodeW MJ15_charAt ∈ lw_all ∧ Cond.initialized MJ15_charAt.1.cls ∈ lw_all) := ⟨⟨by decide +kernel, by decide +kernel⟩, q1067, q123⟩
noncomputable def f_J15_charAt (x0 x1 : Int) (σ : zM) : Option zO :=
  (zla σ 104 x0).bind fun v1 =>
  zcv (f_J2_checkIndex x1 v1 σ) fun σ2 =>
  (zga σ2 104 x0 x1).bind fun v3 =>
  zgd (zch (zi2c (zand v3 255))) <|
  some (0, zi (zi2c (zand v3 255)), σ2)
theorem c_J15_charAt {g : zG} {lv : Nat} {x0 x1 : Int} {σ : zM} {out : zO} (h : f_J15_charAt x0 x1 σ = some out) : Cj g (lv + 2) MJ15_charAt [zr x0, zi x1] σ out := by
  refine cj_go (ls := [(0, zr x0), (1, zi x1)]) (by decide) (Nat.le_of_ble_eq_true rfl) rfl (zgen h (fun r hk => ?_))
  unfold f_J15_charAt
  refine zst_ (gj_iload_n 1 (pc := 0) dJ15_charAt_0 rfl) ?_
  refine zst_ (gj_aload_n 0 (pc := 1) dJ15_charAt_1 rfl) ?_
  refine gb_alen (pc := 2) (k := 104) (by decide) dJ15_charAt_2 (fun v1 => ?_)
  refine gb_callV (pc := 3) (as := [zi x1, zi v1]) (rest := []) (zCl.of (zLk_S (M := MJ15_charAt) plJ2_checkIndex.1 rfl dJ15_charAt_3 q1068 q900 q104 q901) plJ2_checkIndex (Nat.le_of_ble_eq_true rfl) (fun h => c_J2_checkIndex h)) (fun σ2 => ?_)
  refine zst_ (gj_aload_n 0 (pc := 6) dJ15_charAt_6 rfl) ?_
  refine zst_ (gj_iload_n 1 (pc := 7) dJ15_charAt_7 rfl) ?_
  refine gb_bald (pc := 8) dJ15_charAt_8 (fun v3 => ?_)
  refine zst_ (gj_sipush (pc := 9) dJ15_charAt_9 ⟨rfl, by decide⟩) ?_
  refine zst_ (gj_iand (pc := 12) dJ15_charAt_12) ?_
  refine zst_ (gj_i2c (pc := 13) dJ15_charAt_13) ?_
  refine gb_gd (fun hb => ?_)
  intro h
  cases h
  have hk : (0, zi (zi2c (zand v3 255)), σ2) = out := hk
  subst hk
  exact gj_ret (pc := 14) (t := .char) dJ15_charAt_14 rfl ⟨rfl, rfl⟩ (fun _ => zchE hb)
theorem q1060 : (Jvm.Cond.code ({ cls := "java/lang/String", name := "charAt", desc := "(I)C" } : Jvm.MethodName) prog_37_method_56_code (2 : Nat) (Option.some Jvm.ClassFile.FieldType.char)) ∈ lw_all := lw_g (lw_at lw_m5 0 rfl) rfl
theorem q1061 : (Jvm.Cond.methodLink "java/lang/String" (492 : Nat) ({ cls := "java/lang/String", name := "isLatin1", desc := "()Z" } : Jvm.MethodName)) ∈ lw_all := lw_g (lw_at lw_m5 1 rfl) rfl
theorem q1062 : (Jvm.Cond.instanceMethod ({ cls := "java/lang/String", name := "isLatin1", desc := "()Z" } : Jvm.MethodName)) ∈ lw_all := lw_g (lw_at lw_m5 2 rfl) rfl
theorem q1063 : (Jvm.Cond.selects "java/lang/String" ({ cls := "java/lang/String", name := "isLatin1", desc := "()Z" } : Jvm.MethodName) ({ cls := "java/lang/String", name := "isLatin1", desc := "()Z" } : Jvm.MethodName)) ∈ lw_all := lw_g (lw_at lw_m5 3 rfl) rfl
theorem q1065 : (Jvm.Cond.methodLink "java/lang/String" (495 : Nat) ({ cls := "java/lang/StringLatin1", name := "charAt", desc := "([BI)C" } : Jvm.MethodName)) ∈ lw_all := lw_g (lw_at lw_m5 5 rfl) rfl
theorem q1066 : (Jvm.Cond.static ({ cls := "java/lang/StringLatin1", name := "charAt", desc := "([BI)C" } : Jvm.MethodName)) ∈ lw_all := lw_g (lw_at lw_m5 6 rfl) rfl
abbrev cJ2_charAt : ByteArray := prog_37_method_56_code
def yJ2_charAt : MethodName := ⟨RJ2, "charAt", "(I)C"⟩
theorem dJ2_charAt_0 : decode cJ2_charAt 0 = .ok (.aload_n 0, 1) := by decide +kernel
theorem dJ2_charAt_1 : decode cJ2_charAt 1 = .ok (.invokevirtual 492, 3) := by decide +kernel
theorem dJ2_charAt_4 : decode cJ2_charAt 4 = .ok (.ifCond .eq 12, 3) := by decide +kernel
theorem dJ2_charAt_7 : decode cJ2_charAt 7 = .ok (.aload_n 0, 1) := by decide +kernel
theorem dJ2_charAt_8 : decode cJ2_charAt 8 = .ok (.getfield 9, 3) := by decide +kernel
theorem dJ2_charAt_11 : decode cJ2_charAt 11 = .ok (.iload_n 1, 1) := by decide +kernel
theorem dJ2_charAt_12 : decode cJ2_charAt 12 = .ok (.invokestatic 495, 3) := by decide +kernel
theorem dJ2_charAt_15 : decode cJ2_charAt 15 = .ok (.ireturn, 1) := by decide +kernel
theorem dJ2_charAt_16 : decode cJ2_charAt 16 = .ok (.aload_n 0, 1) := by decide +kernel
theorem dJ2_charAt_17 : decode cJ2_charAt 17 = .ok (.getfield 9, 3) := by decide +kernel
theorem dJ2_charAt_20 : decode cJ2_charAt 20 = .ok (.iload_n 1, 1) := by decide +kernel
theorem dJ2_charAt_21 : decode cJ2_charAt 21 = .ok (.invokestatic 498, 3) := by decide +kernel
theorem dJ2_charAt_24 : decode cJ2_charAt 24 = .ok (.ireturn, 1) := by decide +kernel
abbrev MJ2_charAt : zT := (yJ2_charAt, cJ2_charAt, 2, (Option.some Jvm.ClassFile.FieldType.char), [])
theorem plJ2_charAt : zplain MJ2_charAt 1 ∧ (zcodeW MJ2_charAt ∈ lw_all ∧ Cond.initialized MJ2_charAt.1.cls ∈ lw_all) := ⟨⟨by decide +kernel, by decide +kernel⟩, q1060, q104⟩
noncomputable def f_J2_charAt (x0 x1 : Int) (σ : zM) : Option zO :=
  zgd (zis σ 22 x0) <|
  zci (f_J2_isLatin1 x0 σ) fun v1 σ2 =>
  if v1 = 0 then
    (zgf σ2 2100 x0).bind fun v3 =>
    none
  else
    (zgf σ2 2100 x0).bind fun v4 =>
    zci (f_J15_charAt v4 x1 σ2) fun v5 σ6 =>
    zgd (zch v5) <|
    some (0, zi v5, σ6)
theorem c_J2_charAt {g : zG} {lv : Nat} {x0 x1 : Int} {σ : zM} {out : zO} (h : f_J2_charAt x0 x1 σ = some out) : Cj g (lv + 3) MJ2_charAt [zr x0, zi x1] σ out := by
  refine cj_go (ls := [(0, zr x0), (1, zi x1)]) (by decide) (Nat.le_of_ble_eq_true rfl) rfl (zgen h (fun r hk => ?_))
  unfold f_J2_charAt
  refine zst_ (gj_aload_n 0 (pc := 0) dJ2_charAt_0 rfl) ?_
  refine gb_gd (fun hb => ?_)
  refine gb_callI (pc := 1) (as := [zr x0]) (rest := []) (zCl.of (zLk_V (M := MJ2_charAt) (ci := 21) (r := (RJ2, TJ2, 4)) plJ2_isLatin1.1 rfl rfl (zisE hb).1 (zisE hb).2 dJ2_charAt_1 q1061 q1062 q1063 q1064) plJ2_isLatin1 (Nat.le_of_ble_eq_true rfl) (fun h => c_J2_isLatin1 h)) (fun v1 σ2 => ?_)
  refine gb_if (gj_if_eq 16 (pc := 4) dJ2_charAt_4 (by decide)) ?_ ?_
  · refine zst_ (gj_aload_n 0 (pc := 16) dJ2_charAt_16 rfl) ?_
    refine gb_get (pc := 17) fl2100 dJ2_charAt_17 q662 (Or.inl rfl) (fun v3 => ?_)
    refine zst_ (gj_iload_n 1 (pc := 20) dJ2_charAt_20 rfl) ?_
    exact (fun h => by cases h)
  · refine zst_ (gj_aload_n 0 (pc := 7) dJ2_charAt_7 rfl) ?_
    refine gb_get (pc := 8) fl2100 dJ2_charAt_8 q662 (Or.inl rfl) (fun v4 => ?_)
    refine zst_ (gj_iload_n 1 (pc := 11) dJ2_charAt_11 rfl) ?_
    refine gb_callI (pc := 12) (as := [zr v4, zi x1]) (rest := []) (zCl.of (zLk_S (M := MJ2_charAt) plJ15_charAt.1 rfl dJ2_charAt_12 q1065 q1066 q123 q1067) plJ15_charAt (Nat.le_of_ble_eq_true rfl) (fun h => c_J15_charAt h)) (fun v5 σ6 => ?_)
    refine gb_gd (fun hb => ?_)
    intro h
    cases h
    have hk : (0, zi v5, σ6) = out := hk
    subst hk
    exact gj_ret (pc := 15) (t := .char) dJ2_charAt_15 rfl ⟨rfl, rfl⟩ (fun _ => zchE hb)
theorem q514 : (Jvm.Cond.instanceMethod ({ cls := "java/lang/String", name := "length", desc := "()I" } : Jvm.MethodName)) ∈ lw_all := lw_g (lw_at lw_m2 174 rfl) rfl
theorem q515 : (Jvm.Cond.selects "java/lang/String" ({ cls := "java/lang/String", name := "length", desc := "()I" } : Jvm.MethodName) ({ cls := "java/lang/String", name := "length", desc := "()I" } : Jvm.MethodName)) ∈ lw_all := lw_g (lw_at lw_m2 175 rfl) rfl
theorem q1055 : (Jvm.Cond.code ({ cls := "LassoFinder$Reader", name := "now", desc := "()C" } : Jvm.MethodName) prog_16_method_3_code (1 : Nat) (Option.some Jvm.ClassFile.FieldType.char)) ∈ lw_all := lw_g (lw_at lw_m4 235 rfl) rfl
theorem q1056 : (Jvm.Cond.methodLink "LassoFinder$Reader" (25 : Nat) ({ cls := "java/lang/String", name := "length", desc := "()I" } : Jvm.MethodName)) ∈ lw_all := lw_g (lw_at lw_m4 236 rfl) rfl
theorem q1057 : (Jvm.Cond.methodLink "LassoFinder$Reader" (31 : Nat) ({ cls := "java/lang/String", name := "charAt", desc := "(I)C" } : Jvm.MethodName)) ∈ lw_all := lw_g (lw_at lw_m4 237 rfl) rfl
theorem q1058 : (Jvm.Cond.instanceMethod ({ cls := "java/lang/String", name := "charAt", desc := "(I)C" } : Jvm.MethodName)) ∈ lw_all := lw_g (lw_at lw_m4 238 rfl) rfl
theorem q1059 : (Jvm.Cond.selects "java/lang/String" ({ cls := "java/lang/String", name := "charAt", desc := "(I)C" } : Jvm.MethodName) ({ cls := "java/lang/String", name := "charAt", desc := "(I)C" } : Jvm.MethodName)) ∈ lw_all := lw_g (lw_at lw_m4 239 rfl) rfl
abbrev cX5_now : ByteArray := prog_16_method_3_code
def yX5_now : MethodName := ⟨RX5, "now", "()C"⟩
theorem dX5_now_0 : decode cX5_now 0 = .ok (.aload_n 0, 1) := by decide +kernel
theorem dX5_now_1 : decode cX5_now 1 = .ok (.getfield 21, 3) := by decide +kernel
theorem dX5_now_4 : decode cX5_now 4 = .ok (.aload_n 0, 1) := by decide +kernel
theorem dX5_now_5 : decode cX5_now 5 = .ok (.getfield 11, 3) := by decide +kernel
theorem dX5_now_8 : decode cX5_now 8 = .ok (.invokevirtual 25, 3) := by decide +kernel
theorem dX5_now_11 : decode cX5_now 11 = .ok (.if_icmp .ge 17, 3) := by decide +kernel
theorem dX5_now_14 : decode cX5_now 14 = .ok (.aload_n 0, 1) := by decide +kernel
theorem dX5_now_15 : decode cX5_now 15 = .ok (.getfield 11, 3) := by decide +kernel
theorem dX5_now_18 : decode cX5_now 18 = .ok (.aload_n 0, 1) := by decide +kernel
theorem dX5_now_19 : decode cX5_now 19 = .ok (.getfield 21, 3) := by decide +kernel
theorem dX5_now_22 : decode cX5_now 22 = .ok (.invokevirtual 31, 3) := by decide +kernel
theorem dX5_now_25 : decode cX5_now 25 = .ok (.goto 4, 3) := by decide +kernel
theorem dX5_now_28 : decode cX5_now 28 = .ok (.iconst 0, 1) := by decide +kernel
theorem dX5_now_29 : decode cX5_now 29 = .ok (.ireturn, 1) := by decide +kernel
abbrev MX5_now : zT := (yX5_now, cX5_now, 1, (Option.some Jvm.ClassFile.FieldType.char), [])
theorem plX5_now : zplain MX5_now 0 ∧ (zcodeW MX5_now ∈ lw_all ∧ Cond.initialized MX5_now.1.cls ∈ lw_all) := ⟨⟨by decide +kernel, by decide +kernel⟩, q1055, q109⟩
noncomputable def f_X5_now_29 (t0 : Int) (σ : zM) : Option zO :=
  zgd (zch t0) <|
  some (0, zi t0, σ)
theorem w_X5_now_29 {g : zG} {lv : Nat} {out : zO} (t0 : Int) (σ : zM) {r : zO} (h : f_X5_now_29 t0 σ = some r) (hk : (fun o : zO => o = out) r) : Gj g MX5_now (lv + 4) 29 [] [zi t0] σ out := by
  revert h
  unfold f_X5_now_29
  refine gb_gd (fun hb => ?_)
  intro h
  cases h
  have hk : (0, zi t0, σ) = out := hk
  subst hk
  exact gj_ret (pc := 29) (t := .char) dX5_now_29 rfl ⟨rfl, rfl⟩ (fun _ => zchE hb)
noncomputable def f_X5_now (x0 : Int) (σ : zM) : Option zO :=
  (zgf σ 502 x0).bind fun v1 =>
  (zgf σ 501 x0).bind fun v2 =>
  zgd (zis σ 22 v2) <|
  zci (f_J2_length v2 σ) fun v3 σ4 =>
  if v3 ≤ v1 then
    f_X5_now_29 0 σ4
  else
    (zgf σ4 501 x0).bind fun v5 =>
    (zgf σ4 502 x0).bind fun v6 =>
    zgd (zis σ4 22 v5) <|
    zci (f_J2_charAt v5 v6 σ4) fun v7 σ8 =>
    f_X5_now_29 v7 σ8
theorem c_X5_now {g : zG} {lv : Nat} {x0 : Int} {σ : zM} {out : zO} (h : f_X5_now x0 σ = some out) : Cj g (lv + 4) MX5_now [zr x0] σ out := by
  refine cj_go (ls := [(0, zr x0)]) (by decide) (Nat.le_of_ble_eq_true rfl) rfl (zgen h (fun r hk => ?_))
  unfold f_X5_now
  refine zst_ (gj_aload_n 0 (pc := 0) dX5_now_0 rfl) ?_
  refine gb_get (pc := 1) fl502 dX5_now_1 q699 (Or.inl rfl) (fun v1 => ?_)
  refine zst_ (gj_aload_n 0 (pc := 4) dX5_now_4 rfl) ?_
  refine gb_get (pc := 5) fl501 dX5_now_5 q694 (Or.inl rfl) (fun v2 => ?_)
  refine gb_gd (fun hb => ?_)
  refine gb_callI (pc := 8) (as := [zr v2]) (rest := [zi v1]) (zCl.of (zLk_V (M := MX5_now) (ci := 21) (r := (RJ2, TJ2, 4)) plJ2_length.1 rfl rfl (zisE hb).1 (zisE hb).2 dX5_now_8 q1056 q514 q515 q516) plJ2_length (Nat.le_of_ble_eq_true rfl) (fun h => c_J2_length h)) (fun v3 σ4 => ?_)
  refine gb_if (gj_icmp_ge 28 (pc := 11) dX5_now_11 (by decide)) ?_ ?_
  · refine zst_ (gj_iconst (pc := 28) dX5_now_28 (by decide)) ?_
    refine zst_ (gj_sub [] rfl) ?_
    exact fun h => w_X5_now_29 0 σ4 h hk
  · refine zst_ (gj_aload_n 0 (pc := 14) dX5_now_14 rfl) ?_
    refine gb_get (pc := 15) fl501 dX5_now_15 q694 (Or.inl rfl) (fun v5 => ?_)
    refine zst_ (gj_aload_n 0 (pc := 18) dX5_now_18 rfl) ?_
    refine gb_get (pc := 19) fl502 dX5_now_19 q699 (Or.inl rfl) (fun v6 => ?_)
    refine gb_gd (fun hb => ?_)
    refine gb_callI (pc := 22) (as := [zr v5, zi v6]) (rest := []) (zCl.of (zLk_V (M := MX5_now) (ci := 21) (r := (RJ2, TJ2, 4)) plJ2_charAt.1 rfl rfl (zisE hb).1 (zisE hb).2 dX5_now_22 q1057 q1058 q1059 q1060) plJ2_charAt (Nat.le_of_ble_eq_true rfl) (fun h => c_J2_charAt h)) (fun v7 σ8 => ?_)
    refine zst_ (gj_goto 29 (pc := 25) dX5_now_25 (by decide)) ?_
    refine zst_ (gj_sub [] rfl) ?_
    exact fun h => w_X5_now_29 v7 σ8 h hk
theorem q1054 : (Jvm.Cond.instanceMethod ({ cls := "LassoFinder$Reader", name := "now", desc := "()C" } : Jvm.MethodName)) ∈ lw_all := lw_g (lw_at lw_m4 234 rfl) rfl
theorem q1081 : (Jvm.Cond.code ({ cls := "LassoFinder$Reader", name := "take", desc := "(C)Z" } : Jvm.MethodName) prog_16_method_5_code (3 : Nat) (Option.some Jvm.ClassFile.FieldType.boolean)) ∈ lw_all := lw_g (lw_at lw_m5 21 rfl) rfl
theorem q1082 : (Jvm.Cond.methodLink "LassoFinder$Reader" (38 : Nat) ({ cls := "LassoFinder$Reader", name := "now", desc := "()C" } : Jvm.MethodName)) ∈ lw_all := lw_g (lw_at lw_m5 22 rfl) rfl
theorem q2459 : (Jvm.Cond.selects "LassoFinder$FormulaReader" ({ cls := "LassoFinder$Reader", name := "now", desc := "()C" } : Jvm.MethodName) ({ cls := "LassoFinder$Reader", name := "now", desc := "()C" } : Jvm.MethodName)) ∈ lw_all := lw_g (lw_at lw_m10 199 rfl) rfl
theorem q2460 : (Jvm.Cond.selects "LassoFinder$ModelReader" ({ cls := "LassoFinder$Reader", name := "now", desc := "()C" } : Jvm.MethodName) ({ cls := "LassoFinder$Reader", name := "now", desc := "()C" } : Jvm.MethodName)) ∈ lw_all := lw_g (lw_at lw_m10 200 rfl) rfl
abbrev cX5_take : ByteArray := prog_16_method_5_code
def yX5_take : MethodName := ⟨RX5, "take", "(C)Z"⟩
theorem dX5_take_0 : decode cX5_take 0 = .ok (.aload_n 0, 1) := by decide +kernel
theorem dX5_take_1 : decode cX5_take 1 = .ok (.invokevirtual 38, 3) := by decide +kernel
theorem dX5_take_4 : decode cX5_take 4 = .ok (.iload_n 1, 1) := by decide +kernel
theorem dX5_take_5 : decode cX5_take 5 = .ok (.if_icmp .ne 7, 3) := by decide +kernel
theorem dX5_take_8 : decode cX5_take 8 = .ok (.iconst 1, 1) := by decide +kernel
theorem dX5_take_9 : decode cX5_take 9 = .ok (.goto 4, 3) := by decide +kernel
theorem dX5_take_12 : decode cX5_take 12 = .ok (.iconst 0, 1) := by decide +kernel
theorem dX5_take_13 : decode cX5_take 13 = .ok (.istore_n 2, 1) := by decide +kernel
theorem dX5_take_14 : decode cX5_take 14 = .ok (.iload_n 2, 1) := by decide +kernel
theorem dX5_take_15 : decode cX5_take 15 = .ok (.ifCond .eq 13, 3) := by decide +kernel
theorem dX5_take_18 : decode cX5_take 18 = .ok (.aload_n 0, 1) := by decide +kernel
theorem dX5_take_19 : decode cX5_take 19 = .ok (.dup, 1) := by decide +kernel
theorem dX5_take_20 : decode cX5_take 20 = .ok (.getfield 21, 3) := by decide +kernel
theorem dX5_take_23 : decode cX5_take 23 = .ok (.iconst 1, 1) := by decide +kernel
theorem dX5_take_24 : decode cX5_take 24 = .ok (.iadd, 1) := by decide +kernel
theorem dX5_take_25 : decode cX5_take 25 = .ok (.putfield 21, 3) := by decide +kernel
theorem dX5_take_28 : decode cX5_take 28 = .ok (.iload_n 2, 1) := by decide +kernel
theorem dX5_take_29 : decode cX5_take 29 = .ok (.ireturn, 1) := by decide +kernel
abbrev MX5_take : zT := (yX5_take, cX5_take, 3, (Option.some Jvm.ClassFile.FieldType.boolean), [])
theorem plX5_take : zplain MX5_take 1 ∧ (zcodeW MX5_take ∈ lw_all ∧ Cond.initialized MX5_take.1.cls ∈ lw_all) := ⟨⟨by decide +kernel, by decide +kernel⟩, q1081, q109⟩
noncomputable def f_X5_take_28 (x2 : Int) (σ : zM) : Option zO :=
  zgd (z01 x2) <|
  some (0, zi x2, σ)
theorem w_X5_take_28 {g : zG} {lv : Nat} {out : zO} (x2 : Int) (σ : zM) {r : zO} (h : f_X5_take_28 x2 σ = some r) (hk : (fun o : zO => o = out) r) : Gj g MX5_take (lv + 5) 28 [(2, zi x2)] [] σ out := by
  revert h
  unfold f_X5_take_28
  refine zst_ (gj_iload_n 0 (pc := 28) dX5_take_28 rfl) ?_
  refine gb_gd (fun hb => ?_)
  intro h
  cases h
  have hk : (0, zi x2, σ) = out := hk
  subst hk
  exact gj_ret (pc := 29) (t := .boolean) dX5_take_29 rfl ⟨rfl, rfl⟩ (fun _ => z01E hb)
noncomputable def f_X5_take_13 (x0 t0 : Int) (σ : zM) : Option zO :=
  if t0 = 0 then
    f_X5_take_28 t0 σ
  else
    (zgf σ 502 x0).bind fun v1 =>
    (zpf σ 502 x0 (zadd v1 1)).bind fun σ2 =>
    f_X5_take_28 t0 σ2
theorem w_X5_take_13 {g : zG} {lv : Nat} {out : zO} (x0 t0 : Int) (σ : zM) {r : zO} (h : f_X5_take_13 x0 t0 σ = some r) (hk : (fun o : zO => o = out) r) : Gj g MX5_take (lv + 5) 13 [(0, zr x0)] [zi t0] σ out := by
  revert h
  unfold f_X5_take_13
  refine zst_ (gj_istore_n (pc := 13) (ls' := [(2, zi t0), (0, zr x0)]) dX5_take_13 (by decide) rfl) ?_
  refine zst_ (gj_iload_n 0 (pc := 14) dX5_take_14 rfl) ?_
  refine gb_if (gj_if_eq 28 (pc := 15) dX5_take_15 (by decide)) ?_ ?_
  · refine zst_ (gj_sub [0] rfl) ?_
    exact fun h => w_X5_take_28 t0 σ h hk
  · refine zst_ (gj_aload_n 1 (pc := 18) dX5_take_18 rfl) ?_
    refine zst_ (gj_dup (pc := 19) dX5_take_19 rfl) ?_
    refine gb_get (pc := 20) fl502 dX5_take_20 q699 (Or.inl rfl) (fun v1 => ?_)
    refine zst_ (gj_iconst (pc := 23) dX5_take_23 (by decide)) ?_
    refine zst_ (gj_iadd (pc := 24) dX5_take_24) ?_
    refine gb_put (pc := 25) fl502 fr502 dX5_take_25 q699 (Or.inl rfl) (fun σ2 => ?_)
    refine zst_ (gj_sub [0] rfl) ?_
    exact fun h => w_X5_take_28 t0 σ2 h hk
noncomputable def f_X5_take (x0 x1 : Int) (σ : zM) : Option zO :=
  zgd (zis σ 7 x0 || zis σ 8 x0) <|
  zci (f_X5_now x0 σ) fun v1 σ2 =>
  if v1 ≠ x1 then
    f_X5_take_13 x0 0 σ2
  else
    f_X5_take_13 x0 1 σ2
theorem c_X5_take {g : zG} {lv : Nat} {x0 x1 : Int} {σ : zM} {out : zO} (h : f_X5_take x0 x1 σ = some out) : Cj g (lv + 5) MX5_take [zr x0, zi x1] σ out := by
  refine cj_go (ls := [(0, zr x0), (1, zi x1)]) (by decide) (Nat.le_of_ble_eq_true rfl) rfl (zgen h (fun r hk => ?_))
  unfold f_X5_take
  refine zst_ (gj_aload_n 0 (pc := 0) dX5_take_0 rfl) ?_
  refine gb_gd (fun hb => ?_)
  refine gb_callI (pc := 1) (as := [zr x0]) (rest := []) (((Bool.or_eq_true _ _).mp hb).elim (fun hb => (zCl.of (zLk_V (M := MX5_take) (ci := 6) (r := (RX6, TX6, 8)) plX5_now.1 rfl rfl (zisE hb).1 (zisE hb).2 dX5_take_1 q1082 q1054 q2460 q1055) plX5_now (Nat.le_of_ble_eq_true rfl) (fun h => c_X5_now h))) (fun hb => (zCl.of (zLk_V (M := MX5_take) (ci := 7) (r := (RX7, TX7, 10)) plX5_now.1 rfl rfl (zisE hb).1 (zisE hb).2 dX5_take_1 q1082 q1054 q2459 q1055) plX5_now (Nat.le_of_ble_eq_true rfl) (fun h => c_X5_now h)))) (fun v1 σ2 => ?_)
  refine zst_ (gj_iload_n 1 (pc := 4) dX5_take_4 rfl) ?_
  refine gb_if (gj_icmp_ne 12 (pc := 5) dX5_take_5 (by decide)) ?_ ?_
  · refine zst_ (gj_iconst (pc := 12) dX5_take_12 (by decide)) ?_
    refine zst_ (gj_sub [0] rfl) ?_
    exact fun h => w_X5_take_13 x0 0 σ2 h hk
  · refine zst_ (gj_iconst (pc := 8) dX5_take_8 (by decide)) ?_
    refine zst_ (gj_goto 13 (pc := 9) dX5_take_9 (by decide)) ?_
    refine zst_ (gj_sub [0] rfl) ?_
    exact fun h => w_X5_take_13 x0 1 σ2 h hk
theorem q1086 : (Jvm.Cond.code ({ cls := "LassoFinder$Reader", name := "need", desc := "(Z)V" } : Jvm.MethodName) prog_16_method_4_code (1 : Nat) (Option.none : Option Jvm.ClassFile.FieldType)) ∈ lw_all := lw_g (lw_at lw_m5 26 rfl) rfl
theorem q1087 : (Jvm.Cond.classLink "LassoFinder$Reader" (35 : Nat) "java/lang/IllegalArgumentException") ∈ lw_all := lw_g (lw_at lw_m5 27 rfl) rfl
theorem q1088 : (Jvm.Cond.methodLink "LassoFinder$Reader" (37 : Nat) ({ cls := "java/lang/IllegalArgumentException", name := "<init>", desc := "()V" } : Jvm.MethodName)) ∈ lw_all := lw_g (lw_at lw_m5 28 rfl) rfl
abbrev cX5_need : ByteArray := prog_16_method_4_code
def yX5_need : MethodName := ⟨RX5, "need", "(Z)V"⟩
theorem dX5_need_0 : decode cX5_need 0 = .ok (.iload_n 0, 1) := by decide +kernel
theorem dX5_need_1 : decode cX5_need 1 = .ok (.ifCond .ne 11, 3) := by decide +kernel
theorem dX5_need_4 : decode cX5_need 4 = .ok (.new 35, 3) := by decide +kernel
theorem dX5_need_7 : decode cX5_need 7 = .ok (.dup, 1) := by decide +kernel
theorem dX5_need_8 : decode cX5_need 8 = .ok (.invokespecial 37, 3) := by decide +kernel
theorem dX5_need_11 : decode cX5_need 11 = .ok (.athrow, 1) := by decide +kernel
theorem dX5_need_12 : decode cX5_need 12 = .ok (.return_, 1) := by decide +kernel
abbrev MX5_need : zT := (yX5_need, cX5_need, 1, (Option.none : Option Jvm.ClassFile.FieldType), [])
theorem plX5_need : zplain MX5_need 1 ∧ (zcodeW MX5_need ∈ lw_all ∧ Cond.initialized MX5_need.1.cls ∈ lw_all) := ⟨⟨by decide +kernel, by decide +kernel⟩, q1086, q109⟩
noncomputable def f_X5_need (x0 : Int) (σ : zM) : Option zO :=
  if x0 ≠ 0 then
    some (0, ((3, 0) : zV), σ)
  else
    (znX σ 51).bind fun σ1 =>
    zgd (zis σ1 51 (↑(zN σ) : Int)) <|
    some (1, zr (↑(zN σ) : Int), σ1)
theorem c_X5_need {g : zG} {lv : Nat} {x0 : Int} {σ : zM} {out : zO} (h : f_X5_need x0 σ = some out) : Cj g (lv + 6) MX5_need [zi x0] σ out := by
  refine cj_go (ls := [(0, zi x0)]) (by decide) (Nat.le_of_ble_eq_true rfl) rfl (zgen h (fun r hk => ?_))
  unfold f_X5_need
  refine zst_ (gj_iload_n 0 (pc := 0) dX5_need_0 rfl) ?_
  refine gb_if (gj_if_ne 12 (pc := 1) dX5_need_1 (by decide)) ?_ ?_
  · intro h
    cases h
    have hk : (0, ((3, 0) : zV), σ) = out := hk
    subst hk
    exact gj_vret (pc := 12) dX5_need_12 rfl
  · refine gb_exc (pc := 4) (k := 51) ⟨by decide, by decide⟩ (by omega) (Nat.le_of_ble_eq_true rfl) dX5_need_4 dX5_need_7 dX5_need_8 q1087 q1088 (fun σ1 => ?_)
    refine gb_gd (fun hb => ?_)
    intro h
    cases h
    have hk : (1, zr (↑(zN σ) : Int), σ1) = out := hk
    subst hk
    exact gj_athrow (pc := 11) (zisE hb).1 (zisE hb).2 (by decide) dX5_need_11 rfl
theorem q1085 : (Jvm.Cond.static ({ cls := "LassoFinder$Reader", name := "need", desc := "(Z)V" } : Jvm.MethodName)) ∈ lw_all := lw_g (lw_at lw_m5 25 rfl) rfl
theorem q1103 : (Jvm.Cond.code ({ cls := "LassoFinder$Reader", name := "letter", desc := "(CI)I" } : Jvm.MethodName) prog_16_method_7_code (4 : Nat) (Option.some Jvm.ClassFile.FieldType.int)) ∈ lw_all := lw_g (lw_at lw_m5 43 rfl) rfl
theorem q1104 : (Jvm.Cond.methodLink "LassoFinder$Reader" (46 : Nat) ({ cls := "LassoFinder$Reader", name := "need", desc := "(Z)V" } : Jvm.MethodName)) ∈ lw_all := lw_g (lw_at lw_m5 44 rfl) rfl
abbrev cX5_letter : ByteArray := prog_16_method_7_code
def yX5_letter : MethodName := ⟨RX5, "letter", "(CI)I"⟩
theorem dX5_letter_0 : decode cX5_letter 0 = .ok (.aload_n 0, 1) := by decide +kernel
theorem dX5_letter_1 : decode cX5_letter 1 = .ok (.invokevirtual 38, 3) := by decide +kernel
theorem dX5_letter_4 : decode cX5_letter 4 = .ok (.iload_n 1, 1) := by decide +kernel
theorem dX5_letter_5 : decode cX5_letter 5 = .ok (.isub, 1) := by decide +kernel
theorem dX5_letter_6 : decode cX5_letter 6 = .ok (.istore_n 3, 1) := by decide +kernel
theorem dX5_letter_7 : decode cX5_letter 7 = .ok (.iload_n 3, 1) := by decide +kernel
theorem dX5_letter_8 : decode cX5_letter 8 = .ok (.ifCond .lt 12, 3) := by decide +kernel
theorem dX5_letter_11 : decode cX5_letter 11 = .ok (.iload_n 3, 1) := by decide +kernel
theorem dX5_letter_12 : decode cX5_letter 12 = .ok (.iload_n 2, 1) := by decide +kernel
theorem dX5_letter_13 : decode cX5_letter 13 = .ok (.if_icmp .ge 7, 3) := by decide +kernel
theorem dX5_letter_16 : decode cX5_letter 16 = .ok (.iconst 1, 1) := by decide +kernel
theorem dX5_letter_17 : decode cX5_letter 17 = .ok (.goto 4, 3) := by decide +kernel
theorem dX5_letter_20 : decode cX5_letter 20 = .ok (.iconst 0, 1) := by decide +kernel
theorem dX5_letter_21 : decode cX5_letter 21 = .ok (.invokestatic 46, 3) := by decide +kernel
theorem dX5_letter_24 : decode cX5_letter 24 = .ok (.aload_n 0, 1) := by decide +kernel
theorem dX5_letter_25 : decode cX5_letter 25 = .ok (.dup, 1) := by decide +kernel
theorem dX5_letter_26 : decode cX5_letter 26 = .ok (.getfield 21, 3) := by decide +kernel
theorem dX5_letter_29 : decode cX5_letter 29 = .ok (.iconst 1, 1) := by decide +kernel
theorem dX5_letter_30 : decode cX5_letter 30 = .ok (.iadd, 1) := by decide +kernel
theorem dX5_letter_31 : decode cX5_letter 31 = .ok (.putfield 21, 3) := by decide +kernel
theorem dX5_letter_34 : decode cX5_letter 34 = .ok (.iload_n 3, 1) := by decide +kernel
theorem dX5_letter_35 : decode cX5_letter 35 = .ok (.ireturn, 1) := by decide +kernel
abbrev MX5_letter : zT := (yX5_letter, cX5_letter, 4, (Option.some Jvm.ClassFile.FieldType.int), [])
theorem plX5_letter : zplain MX5_letter 2 ∧ (zcodeW MX5_letter ∈ lw_all ∧ Cond.initialized MX5_letter.1.cls ∈ lw_all) := ⟨⟨by decide +kernel, by decide +kernel⟩, q1103, q109⟩
noncomputable def f_X5_letter_21 (x0 x3 t0 : Int) (σ : zM) : Option zO :=
  zcvT (f_X5_need t0 σ) (fun n a σ1 => some (n + 1, zr a, σ1)) fun σ1 =>
  (zgf σ1 502 x0).bind fun v2 =>
  (zpf σ1 502 x0 (zadd v2 1)).bind fun σ3 =>
  some (0, zi x3, σ3)
theorem w_X5_letter_21 {g : zG} {lv : Nat} {out : zO} (x0 x3 t0 : Int) (σ : zM) {r : zO} (h : f_X5_letter_21 x0 x3 t0 σ = some r) (hk : (fun o : zO => o = out) r) : Gj g MX5_letter (lv + 7) 21 [(0, zr x0), (3, zi x3)] [zi t0] σ out := by
  revert h
  unfold f_X5_letter_21
  refine gb_callVT (pc := 21) (as := [zi t0]) (rest := []) (zCl.of (zLk_S (M := MX5_letter) plX5_need.1 rfl dX5_letter_21 q1104 q1085 q109 q1086) plX5_need (Nat.le_of_ble_eq_true rfl) (fun h => c_X5_need h)) (fun n a s0 h => by cases h; exact Or.inl ⟨rfl, hk⟩) (fun σ1 => ?_)
  refine zst_ (gj_aload_n 0 (pc := 24) dX5_letter_24 rfl) ?_
  refine zst_ (gj_dup (pc := 25) dX5_letter_25 rfl) ?_
  refine gb_get (pc := 26) fl502 dX5_letter_26 q699 (Or.inl rfl) (fun v2 => ?_)
  refine zst_ (gj_iconst (pc := 29) dX5_letter_29 (by decide)) ?_
  refine zst_ (gj_iadd (pc := 30) dX5_letter_30) ?_
  refine gb_put (pc := 31) fl502 fr502 dX5_letter_31 q699 (Or.inl rfl) (fun σ3 => ?_)
  refine zst_ (gj_iload_n 1 (pc := 34) dX5_letter_34 rfl) ?_
  intro h
  cases h
  have hk : (0, zi x3, σ3) = out := hk
  subst hk
  exact gj_ret (pc := 35) (t := .int) dX5_letter_35 rfl ⟨rfl, rfl⟩ (fun h => h)
noncomputable def f_X5_letter_20 (x0 x3 : Int) (σ : zM) : Option zO :=
  f_X5_letter_21 x0 x3 0 σ
theorem w_X5_letter_20 {g : zG} {lv : Nat} {out : zO} (x0 x3 : Int) (σ : zM) {r : zO} (h : f_X5_letter_20 x0 x3 σ = some r) (hk : (fun o : zO => o = out) r) : Gj g MX5_letter (lv + 7) 20 [(0, zr x0), (3, zi x3)] [] σ out := by
  revert h
  unfold f_X5_letter_20
  refine zst_ (gj_iconst (pc := 20) dX5_letter_20 (by decide)) ?_
  exact fun h => w_X5_letter_21 x0 x3 0 σ h hk
noncomputable def f_X5_letter (x0 x1 x2 : Int) (σ : zM) : Option zO :=
  zgd (zis σ 7 x0 || zis σ 8 x0) <|
  zci (f_X5_now x0 σ) fun v1 σ2 =>
  zlet ((zsub v1 x1)) fun y3 =>
  if y3 < 0 then
    f_X5_letter_20 x0 y3 σ2
  else
    if x2 ≤ y3 then
      f_X5_letter_20 x0 y3 σ2
    else
      f_X5_letter_21 x0 y3 1 σ2
theorem c_X5_letter {g : zG} {lv : Nat} {x0 x1 x2 : Int} {σ : zM} {out : zO} (h : f_X5_letter x0 x1 x2 σ = some out) : Cj g (lv + 7) MX5_letter [zr x0, zi x1, zi x2] σ out := by
  refine cj_go (ls := [(0, zr x0), (1, zi x1), (2, zi x2)]) (by decide) (Nat.le_of_ble_eq_true rfl) rfl (zgen h (fun r hk => ?_))
  unfold f_X5_letter
  refine zst_ (gj_aload_n 0 (pc := 0) dX5_letter_0 rfl) ?_
  refine gb_gd (fun hb => ?_)
  refine gb_callI (pc := 1) (as := [zr x0]) (rest := []) (((Bool.or_eq_true _ _).mp hb).elim (fun hb => (zCl.of (zLk_V (M := MX5_letter) (ci := 6) (r := (RX6, TX6, 8)) plX5_now.1 rfl rfl (zisE hb).1 (zisE hb).2 dX5_letter_1 q1082 q1054 q2460 q1055) plX5_now (Nat.le_of_ble_eq_true rfl) (fun h => c_X5_now h))) (fun hb => (zCl.of (zLk_V (M := MX5_letter) (ci := 7) (r := (RX7, TX7, 10)) plX5_now.1 rfl rfl (zisE hb).1 (zisE hb).2 dX5_letter_1 q1082 q1054 q2459 q1055) plX5_now (Nat.le_of_ble_eq_true rfl) (fun h => c_X5_now h)))) (fun v1 σ2 => ?_)
  refine zst_ (gj_iload_n 1 (pc := 4) dX5_letter_4 rfl) ?_
  refine zst_ (gj_isub (pc := 5) dX5_letter_5) ?_
  refine gb_let (fun y3 => ?_)
  refine zst_ (gj_istore_n (pc := 6) (ls' := [(3, zi y3), (0, zr x0), (1, zi x1), (2, zi x2)]) dX5_letter_6 (by decide) rfl) ?_
  refine zst_ (gj_iload_n 0 (pc := 7) dX5_letter_7 rfl) ?_
  refine gb_if (gj_if_lt 20 (pc := 8) dX5_letter_8 (by decide)) ?_ ?_
  · refine zst_ (gj_sub [1, 0] rfl) ?_
    exact fun h => w_X5_letter_20 x0 y3 σ2 h hk
  · refine zst_ (gj_iload_n 0 (pc := 11) dX5_letter_11 rfl) ?_
    refine zst_ (gj_iload_n 3 (pc := 12) dX5_letter_12 rfl) ?_
    refine gb_if (gj_icmp_ge 20 (pc := 13) dX5_letter_13 (by decide)) ?_ ?_
    · refine zst_ (gj_sub [1, 0] rfl) ?_
      exact fun h => w_X5_letter_20 x0 y3 σ2 h hk
    · refine zst_ (gj_iconst (pc := 16) dX5_letter_16 (by decide)) ?_
      refine zst_ (gj_goto 21 (pc := 17) dX5_letter_17 (by decide)) ?_
      refine zst_ (gj_sub [1, 0] rfl) ?_
      exact fun h => w_X5_letter_21 x0 y3 1 σ2 h hk
theorem q272 : (Jvm.Cond.fieldLink "LassoFinder$Model" (15 : Nat) "LassoFinder$Model" "firsts" "[I") ∈ lw_all := lw_g (lw_at lw_m1 172 rfl) rfl
theorem q1108 : (Jvm.Cond.code ({ cls := "LassoFinder$Model", name := "declare", desc := "(IZI)V" } : Jvm.MethodName) prog_9_method_3_code (4 : Nat) (Option.none : Option Jvm.ClassFile.FieldType)) ∈ lw_all := lw_g (lw_at lw_m5 48 rfl) rfl
theorem fl201 : zfl 201 2 "LassoFinder$Model" "firsts" "[I" true := ⟨rfl, rfl, rfl⟩
theorem fr201 {g : zG} {v : Int} : zok g (2, v) → zokt g (zft 201) v := fun h => h
abbrev cX2_declare : ByteArray := prog_9_method_3_code
def yX2_declare : MethodName := ⟨RX2, "declare", "(IZI)V"⟩
theorem dX2_declare_0 : decode cX2_declare 0 = .ok (.aload_n 0, 1) := by decide +kernel
theorem dX2_declare_1 : decode cX2_declare 1 = .ok (.getfield 9, 3) := by decide +kernel
theorem dX2_declare_4 : decode cX2_declare 4 = .ok (.iload_n 1, 1) := by decide +kernel
theorem dX2_declare_5 : decode cX2_declare 5 = .ok (.iload_n 2, 1) := by decide +kernel
theorem dX2_declare_6 : decode cX2_declare 6 = .ok (.ifCond .eq 7, 3) := by decide +kernel
theorem dX2_declare_9 : decode cX2_declare 9 = .ok (.iconst 2, 1) := by decide +kernel
theorem dX2_declare_10 : decode cX2_declare 10 = .ok (.goto 4, 3) := by decide +kernel
theorem dX2_declare_13 : decode cX2_declare 13 = .ok (.iconst 1, 1) := by decide +kernel
theorem dX2_declare_14 : decode cX2_declare 14 = .ok (.iastore, 1) := by decide +kernel
theorem dX2_declare_15 : decode cX2_declare 15 = .ok (.aload_n 0, 1) := by decide +kernel
theorem dX2_declare_16 : decode cX2_declare 16 = .ok (.getfield 15, 3) := by decide +kernel
theorem dX2_declare_19 : decode cX2_declare 19 = .ok (.iload_n 1, 1) := by decide +kernel
theorem dX2_declare_20 : decode cX2_declare 20 = .ok (.iload_n 3, 1) := by decide +kernel
theorem dX2_declare_21 : decode cX2_declare 21 = .ok (.iastore, 1) := by decide +kernel
theorem dX2_declare_22 : decode cX2_declare 22 = .ok (.iload_n 2, 1) := by decide +kernel
theorem dX2_declare_23 : decode cX2_declare 23 = .ok (.ifCond .eq 16, 3) := by decide +kernel
theorem dX2_declare_26 : decode cX2_declare 26 = .ok (.aload_n 0, 1) := by decide +kernel
theorem dX2_declare_27 : decode cX2_declare 27 = .ok (.dup, 1) := by decide +kernel
theorem dX2_declare_28 : decode cX2_declare 28 = .ok (.getfield 77, 3) := by decide +kernel
theorem dX2_declare_31 : decode cX2_declare 31 = .ok (.iconst 1, 1) := by decide +kernel
theorem dX2_declare_32 : decode cX2_declare 32 = .ok (.iadd, 1) := by decide +kernel
theorem dX2_declare_33 : decode cX2_declare 33 = .ok (.putfield 77, 3) := by decide +kernel
theorem dX2_declare_36 : decode cX2_declare 36 = .ok (.goto 13, 3) := by decide +kernel
theorem dX2_declare_39 : decode cX2_declare 39 = .ok (.aload_n 0, 1) := by decide +kernel
theorem dX2_declare_40 : decode cX2_declare 40 = .ok (.dup, 1) := by decide +kernel
theorem dX2_declare_41 : decode cX2_declare 41 = .ok (.getfield 73, 3) := by decide +kernel
theorem dX2_declare_44 : decode cX2_declare 44 = .ok (.iconst 1, 1) := by decide +kernel
theorem dX2_declare_45 : decode cX2_declare 45 = .ok (.iadd, 1) := by decide +kernel
theorem dX2_declare_46 : decode cX2_declare 46 = .ok (.putfield 73, 3) := by decide +kernel
theorem dX2_declare_49 : decode cX2_declare 49 = .ok (.return_, 1) := by decide +kernel
abbrev MX2_declare : zT := (yX2_declare, cX2_declare, 4, (Option.none : Option Jvm.ClassFile.FieldType), [])
theorem plX2_declare : zplain MX2_declare 3 ∧ (zcodeW MX2_declare ∈ lw_all ∧ Cond.initialized MX2_declare.1.cls ∈ lw_all) := ⟨⟨by decide +kernel, by decide +kernel⟩, q1108, q106⟩
noncomputable def f_X2_declare_49 (σ : zM) : Option zO :=
  some (0, ((3, 0) : zV), σ)
theorem w_X2_declare_49 {g : zG} {lv : Nat} {out : zO} (σ : zM) {r : zO} (h : f_X2_declare_49  σ = some r) (hk : (fun o : zO => o = out) r) : Gj g MX2_declare (lv) 49 [] [] σ out := by
  revert h
  unfold f_X2_declare_49
  intro h
  cases h
  have hk : (0, ((3, 0) : zV), σ) = out := hk
  subst hk
  exact gj_vret (pc := 49) dX2_declare_49 rfl
noncomputable def f_X2_declare_14 (x0 x1 x2 x3 t0 t1 t2 : Int) (σ : zM) : Option zO :=
  (zpa σ 101 t2 t1 t0).bind fun σ1 =>
  (zgf σ1 201 x0).bind fun v2 =>
  (zpa σ1 101 v2 x1 x3).bind fun σ3 =>
  if x2 = 0 then
    (zgf σ3 202 x0).bind fun v4 =>
    (zpf σ3 202 x0 (zadd v4 1)).bind fun σ5 =>
    f_X2_declare_49 σ5
  else
    (zgf σ3 203 x0).bind fun v6 =>
    (zpf σ3 203 x0 (zadd v6 1)).bind fun σ7 =>
    f_X2_declare_49 σ7
theorem w_X2_declare_14 {g : zG} {lv : Nat} {out : zO} (x0 x1 x2 x3 t0 t1 t2 : Int) (σ : zM) {r : zO} (h : f_X2_declare_14 x0 x1 x2 x3 t0 t1 t2 σ = some r) (hk : (fun o : zO => o = out) r) : Gj g MX2_declare (lv) 14 [(0, zr x0), (1, zi x1), (2, zi x2), (3, zi x3)] [zi t0, zi t1, zr t2] σ out := by
  revert h
  unfold f_X2_declare_14
  refine gb_iast (pc := 14) dX2_declare_14 (fun σ1 => ?_)
  refine zst_ (gj_aload_n 0 (pc := 15) dX2_declare_15 rfl) ?_
  refine gb_get (pc := 16) fl201 dX2_declare_16 q272 (Or.inl rfl) (fun v2 => ?_)
  refine zst_ (gj_iload_n 1 (pc := 19) dX2_declare_19 rfl) ?_
  refine zst_ (gj_iload_n 3 (pc := 20) dX2_declare_20 rfl) ?_
  refine gb_iast (pc := 21) dX2_declare_21 (fun σ3 => ?_)
  refine zst_ (gj_iload_n 2 (pc := 22) dX2_declare_22 rfl) ?_
  refine gb_if (gj_if_eq 39 (pc := 23) dX2_declare_23 (by decide)) ?_ ?_
  · refine zst_ (gj_aload_n 0 (pc := 39) dX2_declare_39 rfl) ?_
    refine zst_ (gj_dup (pc := 40) dX2_declare_40 rfl) ?_
    refine gb_get (pc := 41) fl202 dX2_declare_41 q273 (Or.inl rfl) (fun v4 => ?_)
    refine zst_ (gj_iconst (pc := 44) dX2_declare_44 (by decide)) ?_
    refine zst_ (gj_iadd (pc := 45) dX2_declare_45) ?_
    refine gb_put (pc := 46) fl202 fr202 dX2_declare_46 q273 (Or.inl rfl) (fun σ5 => ?_)
    refine zst_ (gj_sub [] rfl) ?_
    exact fun h => w_X2_declare_49 σ5 h hk
  · refine zst_ (gj_aload_n 0 (pc := 26) dX2_declare_26 rfl) ?_
    refine zst_ (gj_dup (pc := 27) dX2_declare_27 rfl) ?_
    refine gb_get (pc := 28) fl203 dX2_declare_28 q275 (Or.inl rfl) (fun v6 => ?_)
    refine zst_ (gj_iconst (pc := 31) dX2_declare_31 (by decide)) ?_
    refine zst_ (gj_iadd (pc := 32) dX2_declare_32) ?_
    refine gb_put (pc := 33) fl203 fr203 dX2_declare_33 q275 (Or.inl rfl) (fun σ7 => ?_)
    refine zst_ (gj_goto 49 (pc := 36) dX2_declare_36 (by decide)) ?_
    refine zst_ (gj_sub [] rfl) ?_
    exact fun h => w_X2_declare_49 σ7 h hk
noncomputable def f_X2_declare (x0 x1 x2 x3 : Int) (σ : zM) : Option zO :=
  (zgf σ 200 x0).bind fun v1 =>
  if x2 = 0 then
    f_X2_declare_14 x0 x1 x2 x3 1 x1 v1 σ
  else
    f_X2_declare_14 x0 x1 x2 x3 2 x1 v1 σ
theorem c_X2_declare {g : zG} {lv : Nat} {x0 x1 x2 x3 : Int} {σ : zM} {out : zO} (h : f_X2_declare x0 x1 x2 x3 σ = some out) : Cj g (lv) MX2_declare [zr x0, zi x1, zi x2, zi x3] σ out := by
  refine cj_go (ls := [(0, zr x0), (1, zi x1), (2, zi x2), (3, zi x3)]) (by decide) (Nat.le_of_ble_eq_true rfl) rfl (zgen h (fun r hk => ?_))
  unfold f_X2_declare
  refine zst_ (gj_aload_n 0 (pc := 0) dX2_declare_0 rfl) ?_
  refine gb_get (pc := 1) fl200 dX2_declare_1 q268 (Or.inl rfl) (fun v1 => ?_)
  refine zst_ (gj_iload_n 1 (pc := 4) dX2_declare_4 rfl) ?_
  refine zst_ (gj_iload_n 2 (pc := 5) dX2_declare_5 rfl) ?_
  refine gb_if (gj_if_eq 13 (pc := 6) dX2_declare_6 (by decide)) ?_ ?_
  · refine zst_ (gj_iconst (pc := 13) dX2_declare_13 (by decide)) ?_
    exact fun h => w_X2_declare_14 x0 x1 x2 x3 1 x1 v1 σ h hk
  · refine zst_ (gj_iconst (pc := 9) dX2_declare_9 (by decide)) ?_
    refine zst_ (gj_goto 14 (pc := 10) dX2_declare_10 (by decide)) ?_
    exact fun h => w_X2_declare_14 x0 x1 x2 x3 2 x1 v1 σ h hk
theorem q1080 : (Jvm.Cond.instanceMethod ({ cls := "LassoFinder$Reader", name := "take", desc := "(C)Z" } : Jvm.MethodName)) ∈ lw_all := lw_g (lw_at lw_m5 20 rfl) rfl
theorem q1114 : (Jvm.Cond.code ({ cls := "LassoFinder$Reader", name := "sign", desc := "(C)V" } : Jvm.MethodName) prog_16_method_6_code (2 : Nat) (Option.none : Option Jvm.ClassFile.FieldType)) ∈ lw_all := lw_g (lw_at lw_m5 54 rfl) rfl
theorem q1115 : (Jvm.Cond.methodLink "LassoFinder$Reader" (42 : Nat) ({ cls := "LassoFinder$Reader", name := "take", desc := "(C)Z" } : Jvm.MethodName)) ∈ lw_all := lw_g (lw_at lw_m5 55 rfl) rfl
theorem q2462 : (Jvm.Cond.selects "LassoFinder$FormulaReader" ({ cls := "LassoFinder$Reader", name := "take", desc := "(C)Z" } : Jvm.MethodName) ({ cls := "LassoFinder$Reader", name := "take", desc := "(C)Z" } : Jvm.MethodName)) ∈ lw_all := lw_g (lw_at lw_m10 202 rfl) rfl
theorem q2463 : (Jvm.Cond.selects "LassoFinder$ModelReader" ({ cls := "LassoFinder$Reader", name := "take", desc := "(C)Z" } : Jvm.MethodName) ({ cls := "LassoFinder$Reader", name := "take", desc := "(C)Z" } : Jvm.MethodName)) ∈ lw_all := lw_g (lw_at lw_m10 203 rfl) rfl
abbrev cX5_sign : ByteArray := prog_16_method_6_code
def yX5_sign : MethodName := ⟨RX5, "sign", "(C)V"⟩
theorem dX5_sign_0 : decode cX5_sign 0 = .ok (.aload_n 0, 1) := by decide +kernel
theorem dX5_sign_1 : decode cX5_sign 1 = .ok (.iload_n 1, 1) := by decide +kernel
theorem dX5_sign_2 : decode cX5_sign 2 = .ok (.invokevirtual 42, 3) := by decide +kernel
theorem dX5_sign_5 : decode cX5_sign 5 = .ok (.invokestatic 46, 3) := by decide +kernel
theorem dX5_sign_8 : decode cX5_sign 8 = .ok (.return_, 1) := by decide +kernel
abbrev MX5_sign : zT := (yX5_sign, cX5_sign, 2, (Option.none : Option Jvm.ClassFile.FieldType), [])
theorem plX5_sign : zplain MX5_sign 1 ∧ (zcodeW MX5_sign ∈ lw_all ∧ Cond.initialized MX5_sign.1.cls ∈ lw_all) := ⟨⟨by decide +kernel, by decide +kernel⟩, q1114, q109⟩
noncomputable def f_X5_sign (x0 x1 : Int) (σ : zM) : Option zO :=
  zgd (zis σ 7 x0 || zis σ 8 x0) <|
  zci (f_X5_take x0 x1 σ) fun v1 σ2 =>
  zcvT (f_X5_need v1 σ2) (fun n a σ3 => some (n + 1, zr a, σ3)) fun σ3 =>
  some (0, ((3, 0) : zV), σ3)
theorem c_X5_sign {g : zG} {lv : Nat} {x0 x1 : Int} {σ : zM} {out : zO} (h : f_X5_sign x0 x1 σ = some out) : Cj g (lv + 7) MX5_sign [zr x0, zi x1] σ out := by
  refine cj_go (ls := [(0, zr x0), (1, zi x1)]) (by decide) (Nat.le_of_ble_eq_true rfl) rfl (zgen h (fun r hk => ?_))
  unfold f_X5_sign
  refine zst_ (gj_aload_n 0 (pc := 0) dX5_sign_0 rfl) ?_
  refine zst_ (gj_iload_n 1 (pc := 1) dX5_sign_1 rfl) ?_
  refine gb_gd (fun hb => ?_)
  refine gb_callI (pc := 2) (as := [zr x0, zi x1]) (rest := []) (((Bool.or_eq_true _ _).mp hb).elim (fun hb => (zCl.of (zLk_V (M := MX5_sign) (ci := 6) (r := (RX6, TX6, 8)) plX5_take.1 rfl rfl (zisE hb).1 (zisE hb).2 dX5_sign_2 q1115 q1080 q2463 q1081) plX5_take (Nat.le_of_ble_eq_true rfl) (fun h => c_X5_take h))) (fun hb => (zCl.of (zLk_V (M := MX5_sign) (ci := 7) (r := (RX7, TX7, 10)) plX5_take.1 rfl rfl (zisE hb).1 (zisE hb).2 dX5_sign_2 q1115 q1080 q2462 q1081) plX5_take (Nat.le_of_ble_eq_true rfl) (fun h => c_X5_take h)))) (fun v1 σ2 => ?_)
  refine gb_callVT (pc := 5) (as := [zi v1]) (rest := []) (zCl.of (zLk_S (M := MX5_sign) plX5_need.1 rfl dX5_sign_5 q1104 q1085 q109 q1086) plX5_need (Nat.le_of_ble_eq_true rfl) (fun h => c_X5_need h)) (fun n a s0 h => by cases h; exact Or.inl ⟨rfl, hk⟩) (fun σ3 => ?_)
  intro h
  cases h
  have hk : (0, ((3, 0) : zV), σ3) = out := hk
  subst hk
  exact gj_vret (pc := 8) dX5_sign_8 rfl
theorem q110 : (Jvm.Cond.initialized "LassoFinder$ModelReader") ∈ lw_all := lw_g (lw_at lw_m1 10 rfl) rfl
theorem q269 : (Jvm.Cond.fieldLinkNest "LassoFinder$ModelReader" (80 : Nat) "LassoFinder$Model" "sorts" "[I" "LassoFinder") ∈ lw_tbl := lw_at lw_m1 169 rfl
theorem q274 : (Jvm.Cond.fieldLinkNest "LassoFinder$ModelReader" (87 : Nat) "LassoFinder$Model" "variables" "I" "LassoFinder") ∈ lw_tbl := lw_at lw_m1 174 rfl
theorem q276 : (Jvm.Cond.fieldLinkNest "LassoFinder$ModelReader" (84 : Nat) "LassoFinder$Model" "channels" "I" "LassoFinder") ∈ lw_tbl := lw_at lw_m1 176 rfl
theorem q690 : (Jvm.Cond.fieldLink "LassoFinder$ModelReader" (48 : Nat) "LassoFinder$ModelReader" "model" "LLassoFinder$Model;") ∈ lw_all := lw_g (lw_at lw_m3 110 rfl) rfl
theorem q691 : (Jvm.Cond.sameField "LassoFinder$ModelReader" "LassoFinder$Reader" "model" "LLassoFinder$Model;") ∈ lw_all := lw_g (lw_at lw_m3 111 rfl) rfl
theorem q1050 : (Jvm.Cond.methodLink "LassoFinder$ModelReader" (57 : Nat) ({ cls := "LassoFinder$ModelReader", name := "now", desc := "()C" } : Jvm.MethodName)) ∈ lw_all := lw_g (lw_at lw_m4 230 rfl) rfl
theorem q1051 : (Jvm.Cond.sameMethod "LassoFinder$ModelReader" "LassoFinder$Reader" "now" "()C") ∈ lw_all := lw_g (lw_at lw_m4 231 rfl) rfl
theorem q1053 : (Jvm.Cond.selects "LassoFinder$ModelReader" ({ cls := "LassoFinder$ModelReader", name := "now", desc := "()C" } : Jvm.MethodName) ({ cls := "LassoFinder$Reader", name := "now", desc := "()C" } : Jvm.MethodName)) ∈ lw_all := lw_g (lw_at lw_m4 233 rfl) rfl
theorem q1075 : (Jvm.Cond.code ({ cls := "LassoFinder$ModelReader", name := "declaration", desc := "()V" } : Jvm.MethodName) prog_10_method_4_code (4 : Nat) (Option.none : Option Jvm.ClassFile.FieldType)) ∈ lw_all := lw_g (lw_at lw_m5 15 rfl) rfl
theorem q1076 : (Jvm.Cond.methodLink "LassoFinder$ModelReader" (76 : Nat) ({ cls := "LassoFinder$ModelReader", name := "take", desc := "(C)Z" } : Jvm.MethodName)) ∈ lw_all := lw_g (lw_at lw_m5 16 rfl) rfl
theorem q1077 : (Jvm.Cond.sameMethod "LassoFinder$ModelReader" "LassoFinder$Reader" "take" "(C)Z") ∈ lw_all := lw_g (lw_at lw_m5 17 rfl) rfl
theorem q1079 : (Jvm.Cond.selects "LassoFinder$ModelReader" ({ cls := "LassoFinder$ModelReader", name := "take", desc := "(C)Z" } : Jvm.MethodName) ({ cls := "LassoFinder$Reader", name := "take", desc := "(C)Z" } : Jvm.MethodName)) ∈ lw_all := lw_g (lw_at lw_m5 19 rfl) rfl
theorem q1083 : (Jvm.Cond.methodLink "LassoFinder$ModelReader" (90 : Nat) ({ cls := "LassoFinder$ModelReader", name := "need", desc := "(Z)V" } : Jvm.MethodName)) ∈ lw_all := lw_g (lw_at lw_m5 23 rfl) rfl
theorem q1084 : (Jvm.Cond.sameMethod "LassoFinder$ModelReader" "LassoFinder$Reader" "need" "(Z)V") ∈ lw_all := lw_g (lw_at lw_m5 24 rfl) rfl
theorem q1098 : (Jvm.Cond.methodLink "LassoFinder$ModelReader" (94 : Nat) ({ cls := "LassoFinder$ModelReader", name := "letter", desc := "(CI)I" } : Jvm.MethodName)) ∈ lw_all := lw_g (lw_at lw_m5 38 rfl) rfl
theorem q1099 : (Jvm.Cond.sameMethod "LassoFinder$ModelReader" "LassoFinder$Reader" "letter" "(CI)I") ∈ lw_all := lw_g (lw_at lw_m5 39 rfl) rfl
theorem q1101 : (Jvm.Cond.selects "LassoFinder$ModelReader" ({ cls := "LassoFinder$ModelReader", name := "letter", desc := "(CI)I" } : Jvm.MethodName) ({ cls := "LassoFinder$Reader", name := "letter", desc := "(CI)I" } : Jvm.MethodName)) ∈ lw_all := lw_g (lw_at lw_m5 41 rfl) rfl
theorem q1102 : (Jvm.Cond.instanceMethod ({ cls := "LassoFinder$Reader", name := "letter", desc := "(CI)I" } : Jvm.MethodName)) ∈ lw_all := lw_g (lw_at lw_m5 42 rfl) rfl
theorem q1105 : (Jvm.Cond.methodLink "LassoFinder$ModelReader" (98 : Nat) ({ cls := "LassoFinder$Model", name := "declare", desc := "(IZI)V" } : Jvm.MethodName)) ∈ lw_all := lw_g (lw_at lw_m5 45 rfl) rfl
theorem q1106 : (Jvm.Cond.instanceMethod ({ cls := "LassoFinder$Model", name := "declare", desc := "(IZI)V" } : Jvm.MethodName)) ∈ lw_all := lw_g (lw_at lw_m5 46 rfl) rfl
theorem q1107 : (Jvm.Cond.selects "LassoFinder$Model" ({ cls := "LassoFinder$Model", name := "declare", desc := "(IZI)V" } : Jvm.MethodName) ({ cls := "LassoFinder$Model", name := "declare", desc := "(IZI)V" } : Jvm.MethodName)) ∈ lw_all := lw_g (lw_at lw_m5 47 rfl) rfl
theorem q1109 : (Jvm.Cond.methodLink "LassoFinder$ModelReader" (102 : Nat) ({ cls := "LassoFinder$ModelReader", name := "sign", desc := "(C)V" } : Jvm.MethodName)) ∈ lw_all := lw_g (lw_at lw_m5 49 rfl) rfl
theorem q1110 : (Jvm.Cond.sameMethod "LassoFinder$ModelReader" "LassoFinder$Reader" "sign" "(C)V") ∈ lw_all := lw_g (lw_at lw_m5 50 rfl) rfl
theorem q1112 : (Jvm.Cond.selects "LassoFinder$ModelReader" ({ cls := "LassoFinder$ModelReader", name := "sign", desc := "(C)V" } : Jvm.MethodName) ({ cls := "LassoFinder$Reader", name := "sign", desc := "(C)V" } : Jvm.MethodName)) ∈ lw_all := lw_g (lw_at lw_m5 52 rfl) rfl
theorem q1113 : (Jvm.Cond.instanceMethod ({ cls := "LassoFinder$Reader", name := "sign", desc := "(C)V" } : Jvm.MethodName)) ∈ lw_all := lw_g (lw_at lw_m5 53 rfl) rfl
theorem fl500 : zfl 500 2 "LassoFinder$Reader" "model" "LLassoFinder$Model;" true := ⟨rfl, rfl, rfl⟩
theorem fr500 {g : zG} {v : Int} : zok g (2, v) → zokt g (zft 500) v := fun h => h
abbrev cX6_declaration : ByteArray := prog_10_method_4_code
def yX6_declaration : MethodName := ⟨RX6, "declaration", "()V"⟩
theorem dX6_declaration_0 : decode cX6_declaration 0 = .ok (.aload_n 0, 1) := by decide +kernel
theorem dX6_declaration_1 : decode cX6_declaration 1 = .ok (.bipush 35, 2) := by decide +kernel
theorem dX6_declaration_3 : decode cX6_declaration 3 = .ok (.invokevirtual 76, 3) := by decide +kernel
theorem dX6_declaration_6 : decode cX6_declaration 6 = .ok (.istore_n 1, 1) := by decide +kernel
theorem dX6_declaration_7 : decode cX6_declaration 7 = .ok (.aload_n 0, 1) := by decide +kernel
theorem dX6_declaration_8 : decode cX6_declaration 8 = .ok (.invokevirtual 57, 3) := by decide +kernel
theorem dX6_declaration_11 : decode cX6_declaration 11 = .ok (.bipush 97, 2) := by decide +kernel
theorem dX6_declaration_13 : decode cX6_declaration 13 = .ok (.if_icmp .lt 64, 3) := by decide +kernel
theorem dX6_declaration_16 : decode cX6_declaration 16 = .ok (.aload_n 0, 1) := by decide +kernel
theorem dX6_declaration_17 : decode cX6_declaration 17 = .ok (.invokevirtual 57, 3) := by decide +kernel
theorem dX6_declaration_20 : decode cX6_declaration 20 = .ok (.bipush 104, 2) := by decide +kernel
theorem dX6_declaration_22 : decode cX6_declaration 22 = .ok (.if_icmp .gt 55, 3) := by decide +kernel
theorem dX6_declaration_25 : decode cX6_declaration 25 = .ok (.aload_n 0, 1) := by decide +kernel
theorem dX6_declaration_26 : decode cX6_declaration 26 = .ok (.getfield 48, 3) := by decide +kernel
theorem dX6_declaration_29 : decode cX6_declaration 29 = .ok (.getfield 80, 3) := by decide +kernel
theorem dX6_declaration_32 : decode cX6_declaration 32 = .ok (.aload_n 0, 1) := by decide +kernel
theorem dX6_declaration_33 : decode cX6_declaration 33 = .ok (.invokevirtual 57, 3) := by decide +kernel
theorem dX6_declaration_36 : decode cX6_declaration 36 = .ok (.bipush 97, 2) := by decide +kernel
theorem dX6_declaration_38 : decode cX6_declaration 38 = .ok (.isub, 1) := by decide +kernel
theorem dX6_declaration_39 : decode cX6_declaration 39 = .ok (.iaload, 1) := by decide +kernel
theorem dX6_declaration_40 : decode cX6_declaration 40 = .ok (.ifCond .ne 37, 3) := by decide +kernel
theorem dX6_declaration_43 : decode cX6_declaration 43 = .ok (.iload_n 1, 1) := by decide +kernel
theorem dX6_declaration_44 : decode cX6_declaration 44 = .ok (.ifCond .eq 17, 3) := by decide +kernel
theorem dX6_declaration_47 : decode cX6_declaration 47 = .ok (.aload_n 0, 1) := by decide +kernel
theorem dX6_declaration_48 : decode cX6_declaration 48 = .ok (.getfield 48, 3) := by decide +kernel
theorem dX6_declaration_51 : decode cX6_declaration 51 = .ok (.getfield 84, 3) := by decide +kernel
theorem dX6_declaration_54 : decode cX6_declaration 54 = .ok (.iconst 2, 1) := by decide +kernel
theorem dX6_declaration_55 : decode cX6_declaration 55 = .ok (.if_icmp .ge 22, 3) := by decide +kernel
theorem dX6_declaration_58 : decode cX6_declaration 58 = .ok (.goto 15, 3) := by decide +kernel
theorem dX6_declaration_61 : decode cX6_declaration 61 = .ok (.aload_n 0, 1) := by decide +kernel
theorem dX6_declaration_62 : decode cX6_declaration 62 = .ok (.getfield 48, 3) := by decide +kernel
theorem dX6_declaration_65 : decode cX6_declaration 65 = .ok (.getfield 87, 3) := by decide +kernel
theorem dX6_declaration_68 : decode cX6_declaration 68 = .ok (.bipush 6, 2) := by decide +kernel
theorem dX6_declaration_70 : decode cX6_declaration 70 = .ok (.if_icmp .ge 7, 3) := by decide +kernel
theorem dX6_declaration_73 : decode cX6_declaration 73 = .ok (.iconst 1, 1) := by decide +kernel
theorem dX6_declaration_74 : decode cX6_declaration 74 = .ok (.goto 4, 3) := by decide +kernel
theorem dX6_declaration_77 : decode cX6_declaration 77 = .ok (.iconst 0, 1) := by decide +kernel
theorem dX6_declaration_78 : decode cX6_declaration 78 = .ok (.invokestatic 90, 3) := by decide +kernel
theorem dX6_declaration_81 : decode cX6_declaration 81 = .ok (.aload_n 0, 1) := by decide +kernel
theorem dX6_declaration_82 : decode cX6_declaration 82 = .ok (.bipush 97, 2) := by decide +kernel
theorem dX6_declaration_84 : decode cX6_declaration 84 = .ok (.bipush 8, 2) := by decide +kernel
theorem dX6_declaration_86 : decode cX6_declaration 86 = .ok (.invokevirtual 94, 3) := by decide +kernel
theorem dX6_declaration_89 : decode cX6_declaration 89 = .ok (.istore_n 2, 1) := by decide +kernel
theorem dX6_declaration_90 : decode cX6_declaration 90 = .ok (.iconst 0, 1) := by decide +kernel
theorem dX6_declaration_91 : decode cX6_declaration 91 = .ok (.istore_n 3, 1) := by decide +kernel
theorem dX6_declaration_92 : decode cX6_declaration 92 = .ok (.iload_n 1, 1) := by decide +kernel
theorem dX6_declaration_93 : decode cX6_declaration 93 = .ok (.ifCond .eq 14, 3) := by decide +kernel
theorem dX6_declaration_96 : decode cX6_declaration 96 = .ok (.aload_n 0, 1) := by decide +kernel
theorem dX6_declaration_97 : decode cX6_declaration 97 = .ok (.bipush 48, 2) := by decide +kernel
theorem dX6_declaration_99 : decode cX6_declaration 99 = .ok (.iconst 4, 1) := by decide +kernel
theorem dX6_declaration_100 : decode cX6_declaration 100 = .ok (.invokevirtual 94, 3) := by decide +kernel
theorem dX6_declaration_103 : decode cX6_declaration 103 = .ok (.istore_n 3, 1) := by decide +kernel
theorem dX6_declaration_104 : decode cX6_declaration 104 = .ok (.goto 21, 3) := by decide +kernel
theorem dX6_declaration_107 : decode cX6_declaration 107 = .ok (.aload_n 0, 1) := by decide +kernel
theorem dX6_declaration_108 : decode cX6_declaration 108 = .ok (.bipush 61, 2) := by decide +kernel
theorem dX6_declaration_110 : decode cX6_declaration 110 = .ok (.invokevirtual 76, 3) := by decide +kernel
theorem dX6_declaration_113 : decode cX6_declaration 113 = .ok (.ifCond .eq 12, 3) := by decide +kernel
theorem dX6_declaration_116 : decode cX6_declaration 116 = .ok (.aload_n 0, 1) := by decide +kernel
theorem dX6_declaration_117 : decode cX6_declaration 117 = .ok (.bipush 48, 2) := by decide +kernel
theorem dX6_declaration_119 : decode cX6_declaration 119 = .ok (.bipush 8, 2) := by decide +kernel
theorem dX6_declaration_121 : decode cX6_declaration 121 = .ok (.invokevirtual 94, 3) := by decide +kernel
theorem dX6_declaration_124 : decode cX6_declaration 124 = .ok (.istore_n 3, 1) := by decide +kernel
theorem dX6_declaration_125 : decode cX6_declaration 125 = .ok (.aload_n 0, 1) := by decide +kernel
theorem dX6_declaration_126 : decode cX6_declaration 126 = .ok (.getfield 48, 3) := by decide +kernel
theorem dX6_declaration_129 : decode cX6_declaration 129 = .ok (.iload_n 2, 1) := by decide +kernel
theorem dX6_declaration_130 : decode cX6_declaration 130 = .ok (.iload_n 1, 1) := by decide +kernel
theorem dX6_declaration_131 : decode cX6_declaration 131 = .ok (.iload_n 3, 1) := by decide +kernel
theorem dX6_declaration_132 : decode cX6_declaration 132 = .ok (.invokevirtual 98, 3) := by decide +kernel
theorem dX6_declaration_135 : decode cX6_declaration 135 = .ok (.aload_n 0, 1) := by decide +kernel
theorem dX6_declaration_136 : decode cX6_declaration 136 = .ok (.bipush 59, 2) := by decide +kernel
theorem dX6_declaration_138 : decode cX6_declaration 138 = .ok (.invokevirtual 102, 3) := by decide +kernel
theorem dX6_declaration_141 : decode cX6_declaration 141 = .ok (.return_, 1) := by decide +kernel
abbrev MX6_declaration : zT := (yX6_declaration, cX6_declaration, 4, (Option.none : Option Jvm.ClassFile.FieldType), [])
theorem plX6_declaration : zplain MX6_declaration 0 ∧ (zcodeW MX6_declaration ∈ lw_all ∧ Cond.initialized MX6_declaration.1.cls ∈ lw_all) := ⟨⟨by decide +kernel, by decide +kernel⟩, q1075, q110⟩
noncomputable def f_X6_declaration_125 (x0 x1 x2 x3 : Int) (σ : zM) : Option zO :=
  (zgf σ 500 x0).bind fun v1 =>
  zgd (zis σ 3 v1) <|
  zcv (f_X2_declare v1 x2 x1 x3 σ) fun σ2 =>
  zgd (zis σ2 7 x0) <|
  zcvT (f_X5_sign x0 59 σ2) (fun n a σ3 => some (n + 1, zr a, σ3)) fun σ3 =>
  some (0, ((3, 0) : zV), σ3)
theorem w_X6_declaration_125 {g : zG} {lv : Nat} {out : zO} (x0 x1 x2 x3 : Int) (σ : zM) {r : zO} (h : f_X6_declaration_125 x0 x1 x2 x3 σ = some r) (hk : (fun o : zO => o = out) r) : Gj g MX6_declaration (lv + 8) 125 [(0, zr x0), (1, zi x1), (2, zi x2), (3, zi x3)] [] σ out := by
  revert h
  unfold f_X6_declaration_125
  refine zst_ (gj_aload_n 0 (pc := 125) dX6_declaration_125 rfl) ?_
  refine gb_get (pc := 126) fl500 dX6_declaration_126 q690 (Or.inr q691) (fun v1 => ?_)
  refine zst_ (gj_iload_n 2 (pc := 129) dX6_declaration_129 rfl) ?_
  refine zst_ (gj_iload_n 1 (pc := 130) dX6_declaration_130 rfl) ?_
  refine zst_ (gj_iload_n 3 (pc := 131) dX6_declaration_131 rfl) ?_
  refine gb_gd (fun hb => ?_)
  refine gb_callV (pc := 132) (as := [zr v1, zi x2, zi x1, zi x3]) (rest := []) (zCl.of (zLk_V (M := MX6_declaration) (ci := 2) (r := (RX2, TX2, 22)) plX2_declare.1 rfl rfl (zisE hb).1 (zisE hb).2 dX6_declaration_132 q1105 q1106 q1107 q1108) plX2_declare (Nat.le_of_ble_eq_true rfl) (fun h => c_X2_declare h)) (fun σ2 => ?_)
  refine zst_ (gj_aload_n 0 (pc := 135) dX6_declaration_135 rfl) ?_
  refine zst_ (gj_bipush (pc := 136) dX6_declaration_136 ⟨rfl, by decide⟩) ?_
  refine gb_gd (fun hb => ?_)
  refine gb_callVT (pc := 138) (as := [zr x0, zi 59]) (rest := []) (zCl.of (zLk_VU (M := MX6_declaration) (ci := 6) (r := (RX6, TX6, 8)) (x := ⟨"LassoFinder$ModelReader", "sign", "(C)V"⟩) plX5_sign.1 ⟨rfl, rfl⟩ rfl rfl (zisE hb).1 (zisE hb).2 dX6_declaration_138 q1109 q1110 q1113 q1112 q1114) plX5_sign (Nat.le_of_ble_eq_true rfl) (fun h => c_X5_sign h)) (fun n a s0 h => by cases h; exact Or.inl ⟨rfl, hk⟩) (fun σ3 => ?_)
  intro h
  cases h
  have hk : (0, ((3, 0) : zV), σ3) = out := hk
  subst hk
  exact gj_vret (pc := 141) dX6_declaration_141 rfl
noncomputable def f_X6_declaration_78 (x0 x1 t0 : Int) (σ : zM) : Option zO :=
  zcvT (f_X5_need t0 σ) (fun n a σ1 => some (n + 1, zr a, σ1)) fun σ1 =>
  zgd (zis σ1 7 x0) <|
  zciT (f_X5_letter x0 97 8 σ1) (fun n a σ3 => some (n + 1, zr a, σ3)) fun v2 σ3 =>
  if x1 = 0 then
    zgd (zis σ3 7 x0) <|
    zci (f_X5_take x0 61 σ3) fun v4 σ5 =>
    if v4 = 0 then
      f_X6_declaration_125 x0 x1 v2 0 σ5
    else
      zgd (zis σ5 7 x0) <|
      zciT (f_X5_letter x0 48 8 σ5) (fun n a σ7 => some (n + 1, zr a, σ7)) fun v6 σ7 =>
      f_X6_declaration_125 x0 x1 v2 v6 σ7
  else
    zgd (zis σ3 7 x0) <|
    zciT (f_X5_letter x0 48 4 σ3) (fun n a σ9 => some (n + 1, zr a, σ9)) fun v8 σ9 =>
    f_X6_declaration_125 x0 x1 v2 v8 σ9
theorem w_X6_declaration_78 {g : zG} {lv : Nat} {out : zO} (x0 x1 t0 : Int) (σ : zM) {r : zO} (h : f_X6_declaration_78 x0 x1 t0 σ = some r) (hk : (fun o : zO => o = out) r) : Gj g MX6_declaration (lv + 8) 78 [(0, zr x0), (1, zi x1)] [zi t0] σ out := by
  revert h
  unfold f_X6_declaration_78
  refine gb_callVT (pc := 78) (as := [zi t0]) (rest := []) (zCl.of (zLk_SU (M := MX6_declaration) (x := ⟨"LassoFinder$ModelReader", "need", "(Z)V"⟩) plX5_need.1 ⟨rfl, rfl⟩ rfl dX6_declaration_78 q1083 q1084 q1085 q109 q1086) plX5_need (Nat.le_of_ble_eq_true rfl) (fun h => c_X5_need h)) (fun n a s0 h => by cases h; exact Or.inl ⟨rfl, hk⟩) (fun σ1 => ?_)
  refine zst_ (gj_aload_n 0 (pc := 81) dX6_declaration_81 rfl) ?_
  refine zst_ (gj_bipush (pc := 82) dX6_declaration_82 ⟨rfl, by decide⟩) ?_
  refine zst_ (gj_bipush (pc := 84) dX6_declaration_84 ⟨rfl, by decide⟩) ?_
  refine gb_gd (fun hb => ?_)
  refine gb_callIT (pc := 86) (as := [zr x0, zi 97, zi 8]) (rest := []) (zCl.of (zLk_VU (M := MX6_declaration) (ci := 6) (r := (RX6, TX6, 8)) (x := ⟨"LassoFinder$ModelReader", "letter", "(CI)I"⟩) plX5_letter.1 ⟨rfl, rfl⟩ rfl rfl (zisE hb).1 (zisE hb).2 dX6_declaration_86 q1098 q1099 q1102 q1101 q1103) plX5_letter (Nat.le_of_ble_eq_true rfl) (fun h => c_X5_letter h)) (fun n a s0 h => by cases h; exact Or.inl ⟨rfl, hk⟩) (fun v2 σ3 => ?_)
  refine zst_ (gj_istore_n (pc := 89) (ls' := [(2, zi v2), (0, zr x0), (1, zi x1)]) dX6_declaration_89 (by decide) rfl) ?_
  refine zst_ (gj_iconst (pc := 90) dX6_declaration_90 (by decide)) ?_
  refine zst_ (gj_istore_n (pc := 91) (ls' := [(3, zi 0), (2, zi v2), (0, zr x0), (1, zi x1)]) dX6_declaration_91 (by decide) rfl) ?_
  refine zst_ (gj_iload_n 3 (pc := 92) dX6_declaration_92 rfl) ?_
  refine gb_if (gj_if_eq 107 (pc := 93) dX6_declaration_93 (by decide)) ?_ ?_
  · refine zst_ (gj_aload_n 2 (pc := 107) dX6_declaration_107 rfl) ?_
    refine zst_ (gj_bipush (pc := 108) dX6_declaration_108 ⟨rfl, by decide⟩) ?_
    refine gb_gd (fun hb => ?_)
    refine gb_callI (pc := 110) (as := [zr x0, zi 61]) (rest := []) (zCl.of (zLk_VU (M := MX6_declaration) (ci := 6) (r := (RX6, TX6, 8)) (x := ⟨"LassoFinder$ModelReader", "take", "(C)Z"⟩) plX5_take.1 ⟨rfl, rfl⟩ rfl rfl (zisE hb).1 (zisE hb).2 dX6_declaration_110 q1076 q1077 q1080 q1079 q1081) plX5_take (Nat.le_of_ble_eq_true rfl) (fun h => c_X5_take h)) (fun v4 σ5 => ?_)
    refine gb_if (gj_if_eq 125 (pc := 113) dX6_declaration_113 (by decide)) ?_ ?_
    · refine zst_ (gj_sub [2, 3, 1, 0] rfl) ?_
      exact fun h => w_X6_declaration_125 x0 x1 v2 0 σ5 h hk
    · refine zst_ (gj_aload_n 2 (pc := 116) dX6_declaration_116 rfl) ?_
      refine zst_ (gj_bipush (pc := 117) dX6_declaration_117 ⟨rfl, by decide⟩) ?_
      refine zst_ (gj_bipush (pc := 119) dX6_declaration_119 ⟨rfl, by decide⟩) ?_
      refine gb_gd (fun hb => ?_)
      refine gb_callIT (pc := 121) (as := [zr x0, zi 48, zi 8]) (rest := []) (zCl.of (zLk_VU (M := MX6_declaration) (ci := 6) (r := (RX6, TX6, 8)) (x := ⟨"LassoFinder$ModelReader", "letter", "(CI)I"⟩) plX5_letter.1 ⟨rfl, rfl⟩ rfl rfl (zisE hb).1 (zisE hb).2 dX6_declaration_121 q1098 q1099 q1102 q1101 q1103) plX5_letter (Nat.le_of_ble_eq_true rfl) (fun h => c_X5_letter h)) (fun n a s0 h => by cases h; exact Or.inl ⟨rfl, hk⟩) (fun v6 σ7 => ?_)
      refine zst_ (gj_istore_n (pc := 124) (ls' := [(3, zi v6), (2, zi v2), (0, zr x0), (1, zi x1)]) dX6_declaration_124 (by decide) rfl) ?_
      refine zst_ (gj_sub [2, 3, 1, 0] rfl) ?_
      exact fun h => w_X6_declaration_125 x0 x1 v2 v6 σ7 h hk
  · refine zst_ (gj_aload_n 2 (pc := 96) dX6_declaration_96 rfl) ?_
    refine zst_ (gj_bipush (pc := 97) dX6_declaration_97 ⟨rfl, by decide⟩) ?_
    refine zst_ (gj_iconst (pc := 99) dX6_declaration_99 (by decide)) ?_
    refine gb_gd (fun hb => ?_)
    refine gb_callIT (pc := 100) (as := [zr x0, zi 48, zi 4]) (rest := []) (zCl.of (zLk_VU (M := MX6_declaration) (ci := 6) (r := (RX6, TX6, 8)) (x := ⟨"LassoFinder$ModelReader", "letter", "(CI)I"⟩) plX5_letter.1 ⟨rfl, rfl⟩ rfl rfl (zisE hb).1 (zisE hb).2 dX6_declaration_100 q1098 q1099 q1102 q1101 q1103) plX5_letter (Nat.le_of_ble_eq_true rfl) (fun h => c_X5_letter h)) (fun n a s0 h => by cases h; exact Or.inl ⟨rfl, hk⟩) (fun v8 σ9 => ?_)
    refine zst_ (gj_istore_n (pc := 103) (ls' := [(3, zi v8), (2, zi v2), (0, zr x0), (1, zi x1)]) dX6_declaration_103 (by decide) rfl) ?_
    refine zst_ (gj_goto 125 (pc := 104) dX6_declaration_104 (by decide)) ?_
    refine zst_ (gj_sub [2, 3, 1, 0] rfl) ?_
    exact fun h => w_X6_declaration_125 x0 x1 v2 v8 σ9 h hk
noncomputable def f_X6_declaration_77 (x0 x1 : Int) (σ : zM) : Option zO :=
  f_X6_declaration_78 x0 x1 0 σ
theorem w_X6_declaration_77 {g : zG} {lv : Nat} {out : zO} (x0 x1 : Int) (σ : zM) {r : zO} (h : f_X6_declaration_77 x0 x1 σ = some r) (hk : (fun o : zO => o = out) r) : Gj g MX6_declaration (lv + 8) 77 [(0, zr x0), (1, zi x1)] [] σ out := by
  revert h
  unfold f_X6_declaration_77
  refine zst_ (gj_iconst (pc := 77) dX6_declaration_77 (by decide)) ?_
  exact fun h => w_X6_declaration_78 x0 x1 0 σ h hk
noncomputable def f_X6_declaration_73 (x0 x1 : Int) (σ : zM) : Option zO :=
  f_X6_declaration_78 x0 x1 1 σ
theorem w_X6_declaration_73 {g : zG} {lv : Nat} {out : zO} (x0 x1 : Int) (σ : zM) {r : zO} (h : f_X6_declaration_73 x0 x1 σ = some r) (hk : (fun o : zO => o = out) r) : Gj g MX6_declaration (lv + 8) 73 [(0, zr x0), (1, zi x1)] [] σ out := by
  revert h
  unfold f_X6_declaration_73
  refine zst_ (gj_iconst (pc := 73) dX6_declaration_73 (by decide)) ?_
  refine zst_ (gj_goto 78 (pc := 74) dX6_declaration_74 (by decide)) ?_
  exact fun h => w_X6_declaration_78 x0 x1 1 σ h hk
noncomputable def f_X6_declaration (x0 : Int) (σ : zM) : Option zO :=
  zgd (zis σ 7 x0) <|
  zci (f_X5_take x0 35 σ) fun v1 σ2 =>
  zgd (zis σ2 7 x0) <|
  zci (f_X5_now x0 σ2) fun v3 σ4 =>
  if v3 < 97 then
    f_X6_declaration_77 x0 v1 σ4
  else
    zgd (zis σ4 7 x0) <|
    zci (f_X5_now x0 σ4) fun v5 σ6 =>
    if 104 < v5 then
      f_X6_declaration_77 x0 v1 σ6
    else
      (zgf σ6 500 x0).bind fun v7 =>
      (zgf σ6 200 v7).bind fun v8 =>
      zgd (zis σ6 7 x0) <|
      zci (f_X5_now x0 σ6) fun v9 σ10 =>
      (zga σ10 101 v8 (zsub v9 97)).bind fun v11 =>
      if v11 ≠ 0 then
        f_X6_declaration_77 x0 v1 σ10
      else
        if v1 = 0 then
          (zgf σ10 500 x0).bind fun v12 =>
          (zgf σ10 202 v12).bind fun v13 =>
          if 6 ≤ v13 then
            f_X6_declaration_77 x0 v1 σ10
          else
            f_X6_declaration_73 x0 v1 σ10
        else
          (zgf σ10 500 x0).bind fun v14 =>
          (zgf σ10 203 v14).bind fun v15 =>
          if 2 ≤ v15 then
            f_X6_declaration_77 x0 v1 σ10
          else
            f_X6_declaration_73 x0 v1 σ10
theorem c_X6_declaration {g : zG} {lv : Nat} {x0 : Int} {σ : zM} {out : zO} (h : f_X6_declaration x0 σ = some out) : Cj g (lv + 8) MX6_declaration [zr x0] σ out := by
  refine cj_go (ls := [(0, zr x0)]) (by decide) (Nat.le_of_ble_eq_true rfl) rfl (zgen h (fun r hk => ?_))
  unfold f_X6_declaration
  refine zst_ (gj_aload_n 0 (pc := 0) dX6_declaration_0 rfl) ?_
  refine zst_ (gj_bipush (pc := 1) dX6_declaration_1 ⟨rfl, by decide⟩) ?_
  refine gb_gd (fun hb => ?_)
  refine gb_callI (pc := 3) (as := [zr x0, zi 35]) (rest := []) (zCl.of (zLk_VU (M := MX6_declaration) (ci := 6) (r := (RX6, TX6, 8)) (x := ⟨"LassoFinder$ModelReader", "take", "(C)Z"⟩) plX5_take.1 ⟨rfl, rfl⟩ rfl rfl (zisE hb).1 (zisE hb).2 dX6_declaration_3 q1076 q1077 q1080 q1079 q1081) plX5_take (Nat.le_of_ble_eq_true rfl) (fun h => c_X5_take h)) (fun v1 σ2 => ?_)
  refine zst_ (gj_istore_n (pc := 6) (ls' := [(1, zi v1), (0, zr x0)]) dX6_declaration_6 (by decide) rfl) ?_
  refine zst_ (gj_aload_n 1 (pc := 7) dX6_declaration_7 rfl) ?_
  refine gb_gd (fun hb => ?_)
  refine gb_callI (pc := 8) (as := [zr x0]) (rest := []) (zCl.of (zLk_VU (M := MX6_declaration) (ci := 6) (r := (RX6, TX6, 8)) (x := ⟨"LassoFinder$ModelReader", "now", "()C"⟩) plX5_now.1 ⟨rfl, rfl⟩ rfl rfl (zisE hb).1 (zisE hb).2 dX6_declaration_8 q1050 q1051 q1054 q1053 q1055) plX5_now (Nat.le_of_ble_eq_true rfl) (fun h => c_X5_now h)) (fun v3 σ4 => ?_)
  refine zst_ (gj_bipush (pc := 11) dX6_declaration_11 ⟨rfl, by decide⟩) ?_
  refine gb_if (gj_icmp_lt 77 (pc := 13) dX6_declaration_13 (by decide)) ?_ ?_
  · refine zst_ (gj_sub [1, 0] rfl) ?_
    exact fun h => w_X6_declaration_77 x0 v1 σ4 h hk
  · refine zst_ (gj_aload_n 1 (pc := 16) dX6_declaration_16 rfl) ?_
    refine gb_gd (fun hb => ?_)
    refine gb_callI (pc := 17) (as := [zr x0]) (rest := []) (zCl.of (zLk_VU (M := MX6_declaration) (ci := 6) (r := (RX6, TX6, 8)) (x := ⟨"LassoFinder$ModelReader", "now", "()C"⟩) plX5_now.1 ⟨rfl, rfl⟩ rfl rfl (zisE hb).1 (zisE hb).2 dX6_declaration_17 q1050 q1051 q1054 q1053 q1055) plX5_now (Nat.le_of_ble_eq_true rfl) (fun h => c_X5_now h)) (fun v5 σ6 => ?_)
    refine zst_ (gj_bipush (pc := 20) dX6_declaration_20 ⟨rfl, by decide⟩) ?_
    refine gb_if (gj_icmp_gt 77 (pc := 22) dX6_declaration_22 (by decide)) ?_ ?_
    · refine zst_ (gj_sub [1, 0] rfl) ?_
      exact fun h => w_X6_declaration_77 x0 v1 σ6 h hk
    · refine zst_ (gj_aload_n 1 (pc := 25) dX6_declaration_25 rfl) ?_
      refine gb_get (pc := 26) fl500 dX6_declaration_26 q690 (Or.inr q691) (fun v7 => ?_)
      refine gb_getNe (pc := 29) fl200 dX6_declaration_29 q269 (Or.inl rfl) (fun v8 => ?_)
      refine zst_ (gj_aload_n 1 (pc := 32) dX6_declaration_32 rfl) ?_
      refine gb_gd (fun hb => ?_)
      refine gb_callI (pc := 33) (as := [zr x0]) (rest := [zr v8]) (zCl.of (zLk_VU (M := MX6_declaration) (ci := 6) (r := (RX6, TX6, 8)) (x := ⟨"LassoFinder$ModelReader", "now", "()C"⟩) plX5_now.1 ⟨rfl, rfl⟩ rfl rfl (zisE hb).1 (zisE hb).2 dX6_declaration_33 q1050 q1051 q1054 q1053 q1055) plX5_now (Nat.le_of_ble_eq_true rfl) (fun h => c_X5_now h)) (fun v9 σ10 => ?_)
      refine zst_ (gj_bipush (pc := 36) dX6_declaration_36 ⟨rfl, by decide⟩) ?_
      refine zst_ (gj_isub (pc := 38) dX6_declaration_38) ?_
      refine gb_iald (pc := 39) dX6_declaration_39 (fun v11 => ?_)
      refine gb_if (gj_if_ne 77 (pc := 40) dX6_declaration_40 (by decide)) ?_ ?_
      · refine zst_ (gj_sub [1, 0] rfl) ?_
        exact fun h => w_X6_declaration_77 x0 v1 σ10 h hk
      · refine zst_ (gj_iload_n 0 (pc := 43) dX6_declaration_43 rfl) ?_
        refine gb_if (gj_if_eq 61 (pc := 44) dX6_declaration_44 (by decide)) ?_ ?_
        · refine zst_ (gj_aload_n 1 (pc := 61) dX6_declaration_61 rfl) ?_
          refine gb_get (pc := 62) fl500 dX6_declaration_62 q690 (Or.inr q691) (fun v12 => ?_)
          refine gb_getNe (pc := 65) fl202 dX6_declaration_65 q274 (Or.inl rfl) (fun v13 => ?_)
          refine zst_ (gj_bipush (pc := 68) dX6_declaration_68 ⟨rfl, by decide⟩) ?_
          refine gb_if (gj_icmp_ge 77 (pc := 70) dX6_declaration_70 (by decide)) ?_ ?_
          · refine zst_ (gj_sub [1, 0] rfl) ?_
            exact fun h => w_X6_declaration_77 x0 v1 σ10 h hk
          · refine zst_ (gj_sub [1, 0] rfl) ?_
            exact fun h => w_X6_declaration_73 x0 v1 σ10 h hk
        · refine zst_ (gj_aload_n 1 (pc := 47) dX6_declaration_47 rfl) ?_
          refine gb_get (pc := 48) fl500 dX6_declaration_48 q690 (Or.inr q691) (fun v14 => ?_)
          refine gb_getNe (pc := 51) fl203 dX6_declaration_51 q276 (Or.inl rfl) (fun v15 => ?_)
          refine zst_ (gj_iconst (pc := 54) dX6_declaration_54 (by decide)) ?_
          refine gb_if (gj_icmp_ge 77 (pc := 55) dX6_declaration_55 (by decide)) ?_ ?_
          · refine zst_ (gj_sub [1, 0] rfl) ?_
            exact fun h => w_X6_declaration_77 x0 v1 σ10 h hk
          · refine zst_ (gj_goto 73 (pc := 58) dX6_declaration_58 (by decide)) ?_
            refine zst_ (gj_sub [1, 0] rfl) ?_
            exact fun h => w_X6_declaration_73 x0 v1 σ10 h hk
theorem q108 : (Jvm.Cond.initialized "LassoFinder$Routine") ∈ lw_all := lw_g (lw_at lw_m1 8 rfl) rfl
theorem q236 : (Jvm.Cond.fieldLink "LassoFinder$Routine" (25 : Nat) "LassoFinder$Routine" "first" "LLassoFinder$Statement;") ∈ lw_all := lw_g (lw_at lw_m1 136 rfl) rfl
theorem q238 : (Jvm.Cond.fieldLink "LassoFinder$Routine" (29 : Nat) "LassoFinder$Routine" "points" "I") ∈ lw_all := lw_g (lw_at lw_m1 138 rfl) rfl
theorem q242 : (Jvm.Cond.fieldLink "LassoFinder$Routine" (33 : Nat) "LassoFinder$Routine" "set" "I") ∈ lw_all := lw_g (lw_at lw_m1 142 rfl) rfl
theorem q244 : (Jvm.Cond.fieldLink "LassoFinder$Routine" (11 : Nat) "LassoFinder$Routine" "labels" "[LLassoFinder$Statement;") ∈ lw_all := lw_g (lw_at lw_m1 144 rfl) rfl
theorem q249 : (Jvm.Cond.fieldLink "LassoFinder$Routine" (21 : Nat) "LassoFinder$Routine" "basics" "[J") ∈ lw_all := lw_g (lw_at lw_m1 149 rfl) rfl
theorem q1124 : (Jvm.Cond.code ({ cls := "LassoFinder$Routine", name := "clear", desc := "()V" } : Jvm.MethodName) prog_17_method_2_code (2 : Nat) (Option.none : Option Jvm.ClassFile.FieldType)) ∈ lw_all := lw_g (lw_at lw_m5 64 rfl) rfl
theorem fl400 : zfl 400 2 "LassoFinder$Routine" "first" "LLassoFinder$Statement;" false := ⟨rfl, rfl, rfl⟩
theorem fr400 {g : zG} {v : Int} : zok g (2, v) → zokt g (zft 400) v := fun h => h
theorem fl401 : zfl 401 0 "LassoFinder$Routine" "points" "I" false := ⟨rfl, rfl, rfl⟩
theorem fr401 {g : zG} {v : Int} : zok g (0, v) → zokt g (zft 401) v := fun h => h
theorem fl403 : zfl 403 0 "LassoFinder$Routine" "set" "I" false := ⟨rfl, rfl, rfl⟩
theorem fr403 {g : zG} {v : Int} : zok g (0, v) → zokt g (zft 403) v := fun h => h
theorem fl404 : zfl 404 2 "LassoFinder$Routine" "labels" "[LLassoFinder$Statement;" true := ⟨rfl, rfl, rfl⟩
theorem fr404 {g : zG} {v : Int} : zok g (2, v) → zokt g (zft 404) v := fun h => h
theorem fl406 : zfl 406 2 "LassoFinder$Routine" "basics" "[J" true := ⟨rfl, rfl, rfl⟩
theorem fr406 {g : zG} {v : Int} : zok g (2, v) → zokt g (zft 406) v := fun h => h
abbrev cX4_clear : ByteArray := prog_17_method_2_code
def yX4_clear : MethodName := ⟨RX4, "clear", "()V"⟩
theorem dX4_clear_0 : decode cX4_clear 0 = .ok (.aload_n 0, 1) := by decide +kernel
theorem dX4_clear_1 : decode cX4_clear 1 = .ok (.aconst_null, 1) := by decide +kernel
theorem dX4_clear_2 : decode cX4_clear 2 = .ok (.putfield 25, 3) := by decide +kernel
theorem dX4_clear_5 : decode cX4_clear 5 = .ok (.aload_n 0, 1) := by decide +kernel
theorem dX4_clear_6 : decode cX4_clear 6 = .ok (.iconst 0, 1) := by decide +kernel
theorem dX4_clear_7 : decode cX4_clear 7 = .ok (.putfield 29, 3) := by decide +kernel
theorem dX4_clear_10 : decode cX4_clear 10 = .ok (.aload_n 0, 1) := by decide +kernel
theorem dX4_clear_11 : decode cX4_clear 11 = .ok (.iconst 0, 1) := by decide +kernel
theorem dX4_clear_12 : decode cX4_clear 12 = .ok (.putfield 33, 3) := by decide +kernel
theorem dX4_clear_15 : decode cX4_clear 15 = .ok (.iconst 0, 1) := by decide +kernel
theorem dX4_clear_16 : decode cX4_clear 16 = .ok (.istore_n 1, 1) := by decide +kernel
theorem dX4_clear_17 : decode cX4_clear 17 = .ok (.iload_n 1, 1) := by decide +kernel
theorem dX4_clear_18 : decode cX4_clear 18 = .ok (.bipush 8, 2) := by decide +kernel
theorem dX4_clear_20 : decode cX4_clear 20 = .ok (.if_icmp .ge 16, 3) := by decide +kernel
theorem dX4_clear_23 : decode cX4_clear 23 = .ok (.aload_n 0, 1) := by decide +kernel
theorem dX4_clear_24 : decode cX4_clear 24 = .ok (.getfield 11, 3) := by decide +kernel
theorem dX4_clear_27 : decode cX4_clear 27 = .ok (.iload_n 1, 1) := by decide +kernel
theorem dX4_clear_28 : decode cX4_clear 28 = .ok (.aconst_null, 1) := by decide +kernel
theorem dX4_clear_29 : decode cX4_clear 29 = .ok (.aastore, 1) := by decide +kernel
theorem dX4_clear_30 : decode cX4_clear 30 = .ok (.iinc 1 1, 3) := by decide +kernel
theorem dX4_clear_33 : decode cX4_clear 33 = .ok (.goto (-16), 3) := by decide +kernel
theorem dX4_clear_36 : decode cX4_clear 36 = .ok (.iconst 0, 1) := by decide +kernel
theorem dX4_clear_37 : decode cX4_clear 37 = .ok (.istore_n 1, 1) := by decide +kernel
theorem dX4_clear_38 : decode cX4_clear 38 = .ok (.iload_n 1, 1) := by decide +kernel
theorem dX4_clear_39 : decode cX4_clear 39 = .ok (.bipush 30, 2) := by decide +kernel
theorem dX4_clear_41 : decode cX4_clear 41 = .ok (.if_icmp .gt 16, 3) := by decide +kernel
theorem dX4_clear_44 : decode cX4_clear 44 = .ok (.aload_n 0, 1) := by decide +kernel
theorem dX4_clear_45 : decode cX4_clear 45 = .ok (.getfield 21, 3) := by decide +kernel
theorem dX4_clear_48 : decode cX4_clear 48 = .ok (.iload_n 1, 1) := by decide +kernel
theorem dX4_clear_49 : decode cX4_clear 49 = .ok (.lconst 0, 1) := by decide +kernel
theorem dX4_clear_50 : decode cX4_clear 50 = .ok (.lastore, 1) := by decide +kernel
theorem dX4_clear_51 : decode cX4_clear 51 = .ok (.iinc 1 1, 3) := by decide +kernel
theorem dX4_clear_54 : decode cX4_clear 54 = .ok (.goto (-16), 3) := by decide +kernel
theorem dX4_clear_57 : decode cX4_clear 57 = .ok (.return_, 1) := by decide +kernel
abbrev MX4_clear : zT := (yX4_clear, cX4_clear, 2, (Option.none : Option Jvm.ClassFile.FieldType), [])
theorem plX4_clear : zplain MX4_clear 0 ∧ (zcodeW MX4_clear ∈ lw_all ∧ Cond.initialized MX4_clear.1.cls ∈ lw_all) := ⟨⟨by decide +kernel, by decide +kernel⟩, q1124, q108⟩
noncomputable def f_X4_clear_57 (σ : zM) : Option zO :=
  some (0, ((3, 0) : zV), σ)
theorem w_X4_clear_57 {g : zG} {lv : Nat} {out : zO} (σ : zM) {r : zO} (h : f_X4_clear_57  σ = some r) (hk : (fun o : zO => o = out) r) : Gj g MX4_clear (lv) 57 [] [] σ out := by
  revert h
  unfold f_X4_clear_57
  intro h
  cases h
  have hk : (0, ((3, 0) : zV), σ) = out := hk
  subst hk
  exact gj_vret (pc := 57) dX4_clear_57 rfl
noncomputable def f_X4_clear_38_b (x0 x1 : Int) (σ : zM) : Option ((Int × zM) ⊕ zO) :=
  if 30 < x1 then
    (f_X4_clear_57 σ).map (fun r => (.inr r))
  else
    (zgf σ 406 x0).bind fun v1 =>
    (zpa σ 102 v1 x1 0).bind fun σ2 =>
    zlet (zadd x1 1) fun y3 =>
    some (.inl (y3, σ2))
noncomputable def f_X4_clear_38 (x0 x1 : Int) (σ : zM) : Option zO :=
  zloop (fun s : Int × zM => f_X4_clear_38_b x0 s.1 s.2) (x1, σ)
theorem w_X4_clear_38_b {g : zG} {lv : Nat} {out : zO} (x0 x1 : Int) (σ : zM) {r : ((Int × zM) ⊕ zO)} (h : f_X4_clear_38_b x0 x1 σ = some r) (hk : (zKL (fun s : Int × zM => Gj g MX4_clear (lv) 38 [(0, zr x0), (1, zi s.1)] [] s.2 out) (fun o : zO => o = out)) r) : Gj g MX4_clear (lv) 38 [(0, zr x0), (1, zi x1)] [] σ out := by
  revert h
  unfold f_X4_clear_38_b
  refine zst_ (gj_iload_n 1 (pc := 38) dX4_clear_38 rfl) ?_
  refine zst_ (gj_bipush (pc := 39) dX4_clear_39 ⟨rfl, by decide⟩) ?_
  refine gb_if (gj_icmp_gt 57 (pc := 41) dX4_clear_41 (by decide)) ?_ ?_
  · refine zst_ (gj_sub [] rfl) ?_
    intro h
    obtain ⟨r0, h0, rfl⟩ := zmE h
    exact w_X4_clear_57 σ h0 hk
  · refine zst_ (gj_aload_n 0 (pc := 44) dX4_clear_44 rfl) ?_
    refine gb_get (pc := 45) fl406 dX4_clear_45 q249 (Or.inl rfl) (fun v1 => ?_)
    refine zst_ (gj_iload_n 1 (pc := 48) dX4_clear_48 rfl) ?_
    refine zst_ (gj_lconst0 (pc := 49) dX4_clear_49) ?_
    refine gb_last (pc := 50) dX4_clear_50 (fun σ2 => ?_)
    refine gb_iinc (pc := 51) 1 (fun y3 => [(1, zi y3), (0, zr x0)]) dX4_clear_51 rfl (by decide) (fun _ => rfl) (fun y3 => ?_)
    refine zst_ (gj_goto 38 (pc := 54) dX4_clear_54 (by decide)) ?_
    refine zst_ (gj_sub [1, 0] rfl) ?_
    intro h
    cases h
    exact hk
theorem w_X4_clear_38 {g : zG} {lv : Nat} {out : zO} (x0 x1 : Int) (σ : zM) {r : zO} (h : f_X4_clear_38 x0 x1 σ = some r) (hk : (fun o : zO => o = out) r) : Gj g MX4_clear (lv) 38 [(0, zr x0), (1, zi x1)] [] σ out :=
  gj_loop (P := (fun s : Int × zM => Gj g MX4_clear (lv) 38 [(0, zr x0), (1, zi s.1)] [] s.2 out)) (fun s x hb hx => w_X4_clear_38_b x0 s.1 s.2 hb hx) h hk
noncomputable def f_X4_clear_36 (x0 : Int) (σ : zM) : Option zO :=
  f_X4_clear_38 x0 0 σ
theorem w_X4_clear_36 {g : zG} {lv : Nat} {out : zO} (x0 : Int) (σ : zM) {r : zO} (h : f_X4_clear_36 x0 σ = some r) (hk : (fun o : zO => o = out) r) : Gj g MX4_clear (lv) 36 [(0, zr x0)] [] σ out := by
  revert h
  unfold f_X4_clear_36
  refine zst_ (gj_iconst (pc := 36) dX4_clear_36 (by decide)) ?_
  refine zst_ (gj_istore_n (pc := 37) (ls' := [(1, zi 0), (0, zr x0)]) dX4_clear_37 (by decide) rfl) ?_
  refine zst_ (gj_sub [1, 0] rfl) ?_
  exact fun h => w_X4_clear_38 x0 0 σ h hk
noncomputable def f_X4_clear_17_b (x0 x1 : Int) (σ : zM) : Option ((Int × zM) ⊕ zO) :=
  if 8 ≤ x1 then
    (f_X4_clear_36 x0 σ).map (fun r => (.inr r))
  else
    (zgf σ 404 x0).bind fun v1 =>
    (zpr σ 106 v1 x1 (-1)).bind fun σ2 =>
    zlet (zadd x1 1) fun y3 =>
    some (.inl (y3, σ2))
noncomputable def f_X4_clear_17 (x0 x1 : Int) (σ : zM) : Option zO :=
  zloop (fun s : Int × zM => f_X4_clear_17_b x0 s.1 s.2) (x1, σ)
theorem w_X4_clear_17_b {g : zG} {lv : Nat} {out : zO} (x0 x1 : Int) (σ : zM) {r : ((Int × zM) ⊕ zO)} (h : f_X4_clear_17_b x0 x1 σ = some r) (hk : (zKL (fun s : Int × zM => Gj g MX4_clear (lv) 17 [(0, zr x0), (1, zi s.1)] [] s.2 out) (fun o : zO => o = out)) r) : Gj g MX4_clear (lv) 17 [(0, zr x0), (1, zi x1)] [] σ out := by
  revert h
  unfold f_X4_clear_17_b
  refine zst_ (gj_iload_n 1 (pc := 17) dX4_clear_17 rfl) ?_
  refine zst_ (gj_bipush (pc := 18) dX4_clear_18 ⟨rfl, by decide⟩) ?_
  refine gb_if (gj_icmp_ge 36 (pc := 20) dX4_clear_20 (by decide)) ?_ ?_
  · refine zst_ (gj_sub [0] rfl) ?_
    intro h
    obtain ⟨r0, h0, rfl⟩ := zmE h
    exact w_X4_clear_36 x0 σ h0 hk
  · refine zst_ (gj_aload_n 0 (pc := 23) dX4_clear_23 rfl) ?_
    refine gb_get (pc := 24) fl404 dX4_clear_24 q244 (Or.inl rfl) (fun v1 => ?_)
    refine zst_ (gj_iload_n 1 (pc := 27) dX4_clear_27 rfl) ?_
    refine zst_ (gj_null (pc := 28) dX4_clear_28) ?_
    refine gb_aast (pc := 29) (k := 106) ⟨by decide, by decide⟩ dX4_clear_29 (fun σ2 => ?_)
    refine gb_iinc (pc := 30) 1 (fun y3 => [(1, zi y3), (0, zr x0)]) dX4_clear_30 rfl (by decide) (fun _ => rfl) (fun y3 => ?_)
    refine zst_ (gj_goto 17 (pc := 33) dX4_clear_33 (by decide)) ?_
    refine zst_ (gj_sub [1, 0] rfl) ?_
    intro h
    cases h
    exact hk
theorem w_X4_clear_17 {g : zG} {lv : Nat} {out : zO} (x0 x1 : Int) (σ : zM) {r : zO} (h : f_X4_clear_17 x0 x1 σ = some r) (hk : (fun o : zO => o = out) r) : Gj g MX4_clear (lv) 17 [(0, zr x0), (1, zi x1)] [] σ out :=
  gj_loop (P := (fun s : Int × zM => Gj g MX4_clear (lv) 17 [(0, zr x0), (1, zi s.1)] [] s.2 out)) (fun s x hb hx => w_X4_clear_17_b x0 s.1 s.2 hb hx) h hk
noncomputable def f_X4_clear (x0 : Int) (σ : zM) : Option zO :=
  (zpf σ 400 x0 (-1)).bind fun σ1 =>
  (zpf σ1 401 x0 0).bind fun σ2 =>
  (zpf σ2 403 x0 0).bind fun σ3 =>
  f_X4_clear_17 x0 0 σ3
theorem c_X4_clear {g : zG} {lv : Nat} {x0 : Int} {σ : zM} {out : zO} (h : f_X4_clear x0 σ = some out) : Cj g (lv) MX4_clear [zr x0] σ out := by
  refine cj_go (ls := [(0, zr x0)]) (by decide) (Nat.le_of_ble_eq_true rfl) rfl (zgen h (fun r hk => ?_))
  unfold f_X4_clear
  refine zst_ (gj_aload_n 0 (pc := 0) dX4_clear_0 rfl) ?_
  refine zst_ (gj_null (pc := 1) dX4_clear_1) ?_
  refine gb_put (pc := 2) fl400 fr400 dX4_clear_2 q236 (Or.inl rfl) (fun σ1 => ?_)
  refine zst_ (gj_aload_n 0 (pc := 5) dX4_clear_5 rfl) ?_
  refine zst_ (gj_iconst (pc := 6) dX4_clear_6 (by decide)) ?_
  refine gb_put (pc := 7) fl401 fr401 dX4_clear_7 q238 (Or.inl rfl) (fun σ2 => ?_)
  refine zst_ (gj_aload_n 0 (pc := 10) dX4_clear_10 rfl) ?_
  refine zst_ (gj_iconst (pc := 11) dX4_clear_11 (by decide)) ?_
  refine gb_put (pc := 12) fl403 fr403 dX4_clear_12 q242 (Or.inl rfl) (fun σ3 => ?_)
  refine zst_ (gj_iconst (pc := 15) dX4_clear_15 (by decide)) ?_
  refine zst_ (gj_istore_n (pc := 16) (ls' := [(1, zi 0), (0, zr x0)]) dX4_clear_16 (by decide) rfl) ?_
  refine zst_ (gj_sub [1, 0] rfl) ?_
  exact fun h => w_X4_clear_17 x0 0 σ3 h hk
theorem q243 : (Jvm.Cond.fieldLinkNest "LassoFinder$ModelReader" (225 : Nat) "LassoFinder$Routine" "set" "I" "LassoFinder") ∈ lw_tbl := lw_at lw_m1 143 rfl
theorem q688 : (Jvm.Cond.fieldLink "LassoFinder$ModelReader" (113 : Nat) "LassoFinder$ModelReader" "routine" "LLassoFinder$Routine;") ∈ lw_all := lw_g (lw_at lw_m3 108 rfl) rfl
theorem q702 : (Jvm.Cond.fieldLink "LassoFinder$ModelReader" (41 : Nat) "LassoFinder$ModelReader" "at" "I") ∈ lw_all := lw_g (lw_at lw_m3 122 rfl) rfl
theorem q703 : (Jvm.Cond.sameField "LassoFinder$ModelReader" "LassoFinder$Reader" "at" "I") ∈ lw_all := lw_g (lw_at lw_m3 123 rfl) rfl
theorem q1131 : (Jvm.Cond.code ({ cls := "LassoFinder$ModelReader", name := "labels", desc := "()I" } : Jvm.MethodName) prog_10_method_10_code (3 : Nat) (Option.some Jvm.ClassFile.FieldType.int)) ∈ lw_all := lw_g (lw_at lw_m5 71 rfl) rfl
theorem fl607 : zfl 607 2 "LassoFinder$ModelReader" "routine" "LLassoFinder$Routine;" false := ⟨rfl, rfl, rfl⟩
theorem fr607 {g : zG} {v : Int} : zok g (2, v) → zokt g (zft 607) v := fun h => h
abbrev cX6_labels : ByteArray := prog_10_method_10_code
def yX6_labels : MethodName := ⟨RX6, "labels", "()I"⟩
theorem dX6_labels_0 : decode cX6_labels 0 = .ok (.iconst 0, 1) := by decide +kernel
theorem dX6_labels_1 : decode cX6_labels 1 = .ok (.istore_n 1, 1) := by decide +kernel
theorem dX6_labels_2 : decode cX6_labels 2 = .ok (.aload_n 0, 1) := by decide +kernel
theorem dX6_labels_3 : decode cX6_labels 3 = .ok (.bipush 58, 2) := by decide +kernel
theorem dX6_labels_5 : decode cX6_labels 5 = .ok (.invokevirtual 76, 3) := by decide +kernel
theorem dX6_labels_8 : decode cX6_labels 8 = .ok (.ifCond .eq 77, 3) := by decide +kernel
theorem dX6_labels_11 : decode cX6_labels 11 = .ok (.aload_n 0, 1) := by decide +kernel
theorem dX6_labels_12 : decode cX6_labels 12 = .ok (.invokevirtual 57, 3) := by decide +kernel
theorem dX6_labels_15 : decode cX6_labels 15 = .ok (.bipush 65, 2) := by decide +kernel
theorem dX6_labels_17 : decode cX6_labels 17 = .ok (.isub, 1) := by decide +kernel
theorem dX6_labels_18 : decode cX6_labels 18 = .ok (.istore_n 2, 1) := by decide +kernel
theorem dX6_labels_19 : decode cX6_labels 19 = .ok (.iload_n 2, 1) := by decide +kernel
theorem dX6_labels_20 : decode cX6_labels 20 = .ok (.ifCond .lt 27, 3) := by decide +kernel
theorem dX6_labels_23 : decode cX6_labels 23 = .ok (.iload_n 2, 1) := by decide +kernel
theorem dX6_labels_24 : decode cX6_labels 24 = .ok (.bipush 8, 2) := by decide +kernel
theorem dX6_labels_26 : decode cX6_labels 26 = .ok (.if_icmp .ge 21, 3) := by decide +kernel
theorem dX6_labels_29 : decode cX6_labels 29 = .ok (.aload_n 0, 1) := by decide +kernel
theorem dX6_labels_30 : decode cX6_labels 30 = .ok (.getfield 113, 3) := by decide +kernel
theorem dX6_labels_33 : decode cX6_labels 33 = .ok (.getfield 225, 3) := by decide +kernel
theorem dX6_labels_36 : decode cX6_labels 36 = .ok (.iload_n 2, 1) := by decide +kernel
theorem dX6_labels_37 : decode cX6_labels 37 = .ok (.ishr, 1) := by decide +kernel
theorem dX6_labels_38 : decode cX6_labels 38 = .ok (.iconst 1, 1) := by decide +kernel
theorem dX6_labels_39 : decode cX6_labels 39 = .ok (.iand, 1) := by decide +kernel
theorem dX6_labels_40 : decode cX6_labels 40 = .ok (.ifCond .ne 7, 3) := by decide +kernel
theorem dX6_labels_43 : decode cX6_labels 43 = .ok (.iconst 1, 1) := by decide +kernel
theorem dX6_labels_44 : decode cX6_labels 44 = .ok (.goto 4, 3) := by decide +kernel
theorem dX6_labels_47 : decode cX6_labels 47 = .ok (.iconst 0, 1) := by decide +kernel
theorem dX6_labels_48 : decode cX6_labels 48 = .ok (.invokestatic 90, 3) := by decide +kernel
theorem dX6_labels_51 : decode cX6_labels 51 = .ok (.aload_n 0, 1) := by decide +kernel
theorem dX6_labels_52 : decode cX6_labels 52 = .ok (.dup, 1) := by decide +kernel
theorem dX6_labels_53 : decode cX6_labels 53 = .ok (.getfield 41, 3) := by decide +kernel
theorem dX6_labels_56 : decode cX6_labels 56 = .ok (.iconst 1, 1) := by decide +kernel
theorem dX6_labels_57 : decode cX6_labels 57 = .ok (.iadd, 1) := by decide +kernel
theorem dX6_labels_58 : decode cX6_labels 58 = .ok (.putfield 41, 3) := by decide +kernel
theorem dX6_labels_61 : decode cX6_labels 61 = .ok (.aload_n 0, 1) := by decide +kernel
theorem dX6_labels_62 : decode cX6_labels 62 = .ok (.getfield 113, 3) := by decide +kernel
theorem dX6_labels_65 : decode cX6_labels 65 = .ok (.dup, 1) := by decide +kernel
theorem dX6_labels_66 : decode cX6_labels 66 = .ok (.getfield 225, 3) := by decide +kernel
theorem dX6_labels_69 : decode cX6_labels 69 = .ok (.iconst 1, 1) := by decide +kernel
theorem dX6_labels_70 : decode cX6_labels 70 = .ok (.iload_n 2, 1) := by decide +kernel
theorem dX6_labels_71 : decode cX6_labels 71 = .ok (.ishl, 1) := by decide +kernel
theorem dX6_labels_72 : decode cX6_labels 72 = .ok (.ior, 1) := by decide +kernel
theorem dX6_labels_73 : decode cX6_labels 73 = .ok (.putfield 225, 3) := by decide +kernel
theorem dX6_labels_76 : decode cX6_labels 76 = .ok (.iload_n 1, 1) := by decide +kernel
theorem dX6_labels_77 : decode cX6_labels 77 = .ok (.iconst 1, 1) := by decide +kernel
theorem dX6_labels_78 : decode cX6_labels 78 = .ok (.iload_n 2, 1) := by decide +kernel
theorem dX6_labels_79 : decode cX6_labels 79 = .ok (.ishl, 1) := by decide +kernel
theorem dX6_labels_80 : decode cX6_labels 80 = .ok (.ior, 1) := by decide +kernel
theorem dX6_labels_81 : decode cX6_labels 81 = .ok (.istore_n 1, 1) := by decide +kernel
theorem dX6_labels_82 : decode cX6_labels 82 = .ok (.goto (-80), 3) := by decide +kernel
theorem dX6_labels_85 : decode cX6_labels 85 = .ok (.iload_n 1, 1) := by decide +kernel
theorem dX6_labels_86 : decode cX6_labels 86 = .ok (.ireturn, 1) := by decide +kernel
abbrev MX6_labels : zT := (yX6_labels, cX6_labels, 3, (Option.some Jvm.ClassFile.FieldType.int), [])
theorem plX6_labels : zplain MX6_labels 0 ∧ (zcodeW MX6_labels ∈ lw_all ∧ Cond.initialized MX6_labels.1.cls ∈ lw_all) := ⟨⟨by decide +kernel, by decide +kernel⟩, q1131, q110⟩
noncomputable def f_X6_labels_85 (x1 : Int) (σ : zM) : Option zO :=
  some (0, zi x1, σ)
theorem w_X6_labels_85 {g : zG} {lv : Nat} {out : zO} (x1 : Int) (σ : zM) {r : zO} (h : f_X6_labels_85 x1 σ = some r) (hk : (fun o : zO => o = out) r) : Gj g MX6_labels (lv + 7) 85 [(1, zi x1)] [] σ out := by
  revert h
  unfold f_X6_labels_85
  refine zst_ (gj_iload_n 0 (pc := 85) dX6_labels_85 rfl) ?_
  intro h
  cases h
  have hk : (0, zi x1, σ) = out := hk
  subst hk
  exact gj_ret (pc := 86) (t := .int) dX6_labels_86 rfl ⟨rfl, rfl⟩ (fun h => h)
noncomputable def f_X6_labels_48 (x0 x1 x2 t0 : Int) (σ : zM) : Option ((Int × zM) ⊕ zO) :=
  zcvT (f_X5_need t0 σ) (fun n a σ1 => some (.inr (n + 1, zr a, σ1))) fun σ1 =>
  (zgf σ1 502 x0).bind fun v2 =>
  (zpf σ1 502 x0 (zadd v2 1)).bind fun σ3 =>
  (zgf σ3 607 x0).bind fun v4 =>
  (zgf σ3 403 v4).bind fun v5 =>
  (zpf σ3 403 v4 (zor v5 (zshl 1 x2))).bind fun σ6 =>
  zlet ((zor x1 (zshl 1 x2))) fun y7 =>
  some (.inl (y7, σ6))
theorem w_X6_labels_48 {g : zG} {lv : Nat} {out : zO} (x0 x1 x2 t0 : Int) (σ : zM) {r : ((Int × zM) ⊕ zO)} (h : f_X6_labels_48 x0 x1 x2 t0 σ = some r) (hk : (zKL (fun s : Int × zM => Gj g MX6_labels (lv + 7) 2 [(0, zr x0), (1, zi s.1)] [] s.2 out) (fun o : zO => o = out)) r) : Gj g MX6_labels (lv + 7) 48 [(0, zr x0), (1, zi x1), (2, zi x2)] [zi t0] σ out := by
  revert h
  unfold f_X6_labels_48
  refine gb_callVT (pc := 48) (as := [zi t0]) (rest := []) (zCl.of (zLk_SU (M := MX6_labels) (x := ⟨"LassoFinder$ModelReader", "need", "(Z)V"⟩) plX5_need.1 ⟨rfl, rfl⟩ rfl dX6_labels_48 q1083 q1084 q1085 q109 q1086) plX5_need (Nat.le_of_ble_eq_true rfl) (fun h => c_X5_need h)) (fun n a s0 h => by cases h; exact Or.inl ⟨rfl, hk⟩) (fun σ1 => ?_)
  refine zst_ (gj_aload_n 0 (pc := 51) dX6_labels_51 rfl) ?_
  refine zst_ (gj_dup (pc := 52) dX6_labels_52 rfl) ?_
  refine gb_get (pc := 53) fl502 dX6_labels_53 q702 (Or.inr q703) (fun v2 => ?_)
  refine zst_ (gj_iconst (pc := 56) dX6_labels_56 (by decide)) ?_
  refine zst_ (gj_iadd (pc := 57) dX6_labels_57) ?_
  refine gb_put (pc := 58) fl502 fr502 dX6_labels_58 q702 (Or.inr q703) (fun σ3 => ?_)
  refine zst_ (gj_aload_n 0 (pc := 61) dX6_labels_61 rfl) ?_
  refine gb_get (pc := 62) fl607 dX6_labels_62 q688 (Or.inl rfl) (fun v4 => ?_)
  refine zst_ (gj_dup (pc := 65) dX6_labels_65 rfl) ?_
  refine gb_getNe (pc := 66) fl403 dX6_labels_66 q243 (Or.inl rfl) (fun v5 => ?_)
  refine zst_ (gj_iconst (pc := 69) dX6_labels_69 (by decide)) ?_
  refine zst_ (gj_iload_n 2 (pc := 70) dX6_labels_70 rfl) ?_
  refine zst_ (gj_ishl (pc := 71) dX6_labels_71) ?_
  refine zst_ (gj_ior (pc := 72) dX6_labels_72) ?_
  refine gb_putNe (pc := 73) fl403 fr403 dX6_labels_73 q243 (Or.inl rfl) (fun σ6 => ?_)
  refine zst_ (gj_iload_n 1 (pc := 76) dX6_labels_76 rfl) ?_
  refine zst_ (gj_iconst (pc := 77) dX6_labels_77 (by decide)) ?_
  refine zst_ (gj_iload_n 2 (pc := 78) dX6_labels_78 rfl) ?_
  refine zst_ (gj_ishl (pc := 79) dX6_labels_79) ?_
  refine zst_ (gj_ior (pc := 80) dX6_labels_80) ?_
  refine gb_let (fun y7 => ?_)
  refine zst_ (gj_istore_n (pc := 81) (ls' := [(1, zi y7), (0, zr x0), (2, zi x2)]) dX6_labels_81 (by decide) rfl) ?_
  refine zst_ (gj_goto 2 (pc := 82) dX6_labels_82 (by decide)) ?_
  refine zst_ (gj_sub [1, 0] rfl) ?_
  intro h
  cases h
  exact hk
noncomputable def f_X6_labels_47 (x0 x1 x2 : Int) (σ : zM) : Option ((Int × zM) ⊕ zO) :=
  f_X6_labels_48 x0 x1 x2 0 σ
theorem w_X6_labels_47 {g : zG} {lv : Nat} {out : zO} (x0 x1 x2 : Int) (σ : zM) {r : ((Int × zM) ⊕ zO)} (h : f_X6_labels_47 x0 x1 x2 σ = some r) (hk : (zKL (fun s : Int × zM => Gj g MX6_labels (lv + 7) 2 [(0, zr x0), (1, zi s.1)] [] s.2 out) (fun o : zO => o = out)) r) : Gj g MX6_labels (lv + 7) 47 [(0, zr x0), (1, zi x1), (2, zi x2)] [] σ out := by
  revert h
  unfold f_X6_labels_47
  refine zst_ (gj_iconst (pc := 47) dX6_labels_47 (by decide)) ?_
  exact fun h => w_X6_labels_48 x0 x1 x2 0 σ h hk
noncomputable def f_X6_labels_2_b (x0 x1 : Int) (σ : zM) : Option ((Int × zM) ⊕ zO) :=
  zgd (zis σ 7 x0) <|
  zci (f_X5_take x0 58 σ) fun v1 σ2 =>
  if v1 = 0 then
    (f_X6_labels_85 x1 σ2).map (fun r => (.inr r))
  else
    zgd (zis σ2 7 x0) <|
    zci (f_X5_now x0 σ2) fun v3 σ4 =>
    zlet ((zsub v3 65)) fun y5 =>
    if y5 < 0 then
      f_X6_labels_47 x0 x1 y5 σ4
    else
      if 8 ≤ y5 then
        f_X6_labels_47 x0 x1 y5 σ4
      else
        (zgf σ4 607 x0).bind fun v6 =>
        (zgf σ4 403 v6).bind fun v7 =>
        if (zand (zshr v7 y5) 1) ≠ 0 then
          f_X6_labels_47 x0 x1 y5 σ4
        else
          f_X6_labels_48 x0 x1 y5 1 σ4
noncomputable def f_X6_labels_2 (x0 x1 : Int) (σ : zM) : Option zO :=
  zloop (fun s : Int × zM => f_X6_labels_2_b x0 s.1 s.2) (x1, σ)
theorem w_X6_labels_2_b {g : zG} {lv : Nat} {out : zO} (x0 x1 : Int) (σ : zM) {r : ((Int × zM) ⊕ zO)} (h : f_X6_labels_2_b x0 x1 σ = some r) (hk : (zKL (fun s : Int × zM => Gj g MX6_labels (lv + 7) 2 [(0, zr x0), (1, zi s.1)] [] s.2 out) (fun o : zO => o = out)) r) : Gj g MX6_labels (lv + 7) 2 [(0, zr x0), (1, zi x1)] [] σ out := by
  revert h
  unfold f_X6_labels_2_b
  refine zst_ (gj_aload_n 0 (pc := 2) dX6_labels_2 rfl) ?_
  refine zst_ (gj_bipush (pc := 3) dX6_labels_3 ⟨rfl, by decide⟩) ?_
  refine gb_gd (fun hb => ?_)
  refine gb_callI (pc := 5) (as := [zr x0, zi 58]) (rest := []) (zCl.of (zLk_VU (M := MX6_labels) (ci := 6) (r := (RX6, TX6, 8)) (x := ⟨"LassoFinder$ModelReader", "take", "(C)Z"⟩) plX5_take.1 ⟨rfl, rfl⟩ rfl rfl (zisE hb).1 (zisE hb).2 dX6_labels_5 q1076 q1077 q1080 q1079 q1081) plX5_take (Nat.le_of_ble_eq_true rfl) (fun h => c_X5_take h)) (fun v1 σ2 => ?_)
  refine gb_if (gj_if_eq 85 (pc := 8) dX6_labels_8 (by decide)) ?_ ?_
  · refine zst_ (gj_sub [1] rfl) ?_
    intro h
    obtain ⟨r0, h0, rfl⟩ := zmE h
    exact w_X6_labels_85 x1 σ2 h0 hk
  · refine zst_ (gj_aload_n 0 (pc := 11) dX6_labels_11 rfl) ?_
    refine gb_gd (fun hb => ?_)
    refine gb_callI (pc := 12) (as := [zr x0]) (rest := []) (zCl.of (zLk_VU (M := MX6_labels) (ci := 6) (r := (RX6, TX6, 8)) (x := ⟨"LassoFinder$ModelReader", "now", "()C"⟩) plX5_now.1 ⟨rfl, rfl⟩ rfl rfl (zisE hb).1 (zisE hb).2 dX6_labels_12 q1050 q1051 q1054 q1053 q1055) plX5_now (Nat.le_of_ble_eq_true rfl) (fun h => c_X5_now h)) (fun v3 σ4 => ?_)
    refine zst_ (gj_bipush (pc := 15) dX6_labels_15 ⟨rfl, by decide⟩) ?_
    refine zst_ (gj_isub (pc := 17) dX6_labels_17) ?_
    refine gb_let (fun y5 => ?_)
    refine zst_ (gj_istore_n (pc := 18) (ls' := [(2, zi y5), (0, zr x0), (1, zi x1)]) dX6_labels_18 (by decide) rfl) ?_
    refine zst_ (gj_iload_n 0 (pc := 19) dX6_labels_19 rfl) ?_
    refine gb_if (gj_if_lt 47 (pc := 20) dX6_labels_20 (by decide)) ?_ ?_
    · refine zst_ (gj_sub [1, 2, 0] rfl) ?_
      exact fun h => w_X6_labels_47 x0 x1 y5 σ4 h hk
    · refine zst_ (gj_iload_n 0 (pc := 23) dX6_labels_23 rfl) ?_
      refine zst_ (gj_bipush (pc := 24) dX6_labels_24 ⟨rfl, by decide⟩) ?_
      refine gb_if (gj_icmp_ge 47 (pc := 26) dX6_labels_26 (by decide)) ?_ ?_
      · refine zst_ (gj_sub [1, 2, 0] rfl) ?_
        exact fun h => w_X6_labels_47 x0 x1 y5 σ4 h hk
      · refine zst_ (gj_aload_n 1 (pc := 29) dX6_labels_29 rfl) ?_
        refine gb_get (pc := 30) fl607 dX6_labels_30 q688 (Or.inl rfl) (fun v6 => ?_)
        refine gb_getNe (pc := 33) fl403 dX6_labels_33 q243 (Or.inl rfl) (fun v7 => ?_)
        refine zst_ (gj_iload_n 0 (pc := 36) dX6_labels_36 rfl) ?_
        refine zst_ (gj_ishr (pc := 37) dX6_labels_37) ?_
        refine zst_ (gj_iconst (pc := 38) dX6_labels_38 (by decide)) ?_
        refine zst_ (gj_iand (pc := 39) dX6_labels_39) ?_
        refine gb_if (gj_if_ne 47 (pc := 40) dX6_labels_40 (by decide)) ?_ ?_
        · refine zst_ (gj_sub [1, 2, 0] rfl) ?_
          exact fun h => w_X6_labels_47 x0 x1 y5 σ4 h hk
        · refine zst_ (gj_iconst (pc := 43) dX6_labels_43 (by decide)) ?_
          refine zst_ (gj_goto 48 (pc := 44) dX6_labels_44 (by decide)) ?_
          refine zst_ (gj_sub [1, 2, 0] rfl) ?_
          exact fun h => w_X6_labels_48 x0 x1 y5 1 σ4 h hk
theorem w_X6_labels_2 {g : zG} {lv : Nat} {out : zO} (x0 x1 : Int) (σ : zM) {r : zO} (h : f_X6_labels_2 x0 x1 σ = some r) (hk : (fun o : zO => o = out) r) : Gj g MX6_labels (lv + 7) 2 [(0, zr x0), (1, zi x1)] [] σ out :=
  gj_loop (P := (fun s : Int × zM => Gj g MX6_labels (lv + 7) 2 [(0, zr x0), (1, zi s.1)] [] s.2 out)) (fun s x hb hx => w_X6_labels_2_b x0 s.1 s.2 hb hx) h hk
noncomputable def f_X6_labels (x0 : Int) (σ : zM) : Option zO :=
  f_X6_labels_2 x0 0 σ
theorem c_X6_labels {g : zG} {lv : Nat} {x0 : Int} {σ : zM} {out : zO} (h : f_X6_labels x0 σ = some out) : Cj g (lv + 7) MX6_labels [zr x0] σ out := by
  refine cj_go (ls := [(0, zr x0)]) (by decide) (Nat.le_of_ble_eq_true rfl) rfl (zgen h (fun r hk => ?_))
  unfold f_X6_labels
  refine zst_ (gj_iconst (pc := 0) dX6_labels_0 (by decide)) ?_
  refine zst_ (gj_istore_n (pc := 1) (ls' := [(1, zi 0), (0, zr x0)]) dX6_labels_1 (by decide) rfl) ?_
  refine zst_ (gj_sub [1, 0] rfl) ?_
  exact fun h => w_X6_labels_2 x0 0 σ h hk
theorem q113 : (Jvm.Cond.initialized "java/util/ArrayList") ∈ lw_all := lw_g (lw_at lw_m1 13 rfl) rfl
theorem q675 : (Jvm.Cond.fieldLink "java/util/ArrayList" (48 : Nat) "java/util/ArrayList" "size" "I") ∈ lw_all := lw_g (lw_at lw_m3 95 rfl) rfl
theorem q1147 : (Jvm.Cond.code ({ cls := "java/util/ArrayList", name := "size", desc := "()I" } : Jvm.MethodName) prog_47_method_8_code (1 : Nat) (Option.some Jvm.ClassFile.FieldType.int)) ∈ lw_all := lw_g (lw_at lw_m5 87 rfl) rfl
theorem fl2202 : zfl 2202 0 "java/util/ArrayList" "size" "I" false := ⟨rfl, rfl, rfl⟩
theorem fr2202 {g : zG} {v : Int} : zok g (0, v) → zokt g (zft 2202) v := fun h => h
abbrev cJ6_size : ByteArray := prog_47_method_8_code
def yJ6_size : MethodName := ⟨RJ6, "size", "()I"⟩
theorem dJ6_size_0 : decode cJ6_size 0 = .ok (.aload_n 0, 1) := by decide +kernel
theorem dJ6_size_1 : decode cJ6_size 1 = .ok (.getfield 48, 3) := by decide +kernel
theorem dJ6_size_4 : decode cJ6_size 4 = .ok (.ireturn, 1) := by decide +kernel
abbrev MJ6_size : zT := (yJ6_size, cJ6_size, 1, (Option.some Jvm.ClassFile.FieldType.int), [])
theorem plJ6_size : zplain MJ6_size 0 ∧ (zcodeW MJ6_size ∈ lw_all ∧ Cond.initialized MJ6_size.1.cls ∈ lw_all) := ⟨⟨by decide +kernel, by decide +kernel⟩, q1147, q113⟩
noncomputable def f_J6_size (x0 : Int) (σ : zM) : Option zO :=
  (zgf σ 2202 x0).bind fun v1 =>
  some (0, zi v1, σ)
theorem c_J6_size {g : zG} {lv : Nat} {x0 : Int} {σ : zM} {out : zO} (h : f_J6_size x0 σ = some out) : Cj g (lv) MJ6_size [zr x0] σ out := by
  refine cj_go (ls := [(0, zr x0)]) (by decide) (Nat.le_of_ble_eq_true rfl) rfl (zgen h (fun r hk => ?_))
  unfold f_J6_size
  refine zst_ (gj_aload_n 0 (pc := 0) dJ6_size_0 rfl) ?_
  refine gb_get (pc := 1) fl2202 dJ6_size_1 q675 (Or.inl rfl) (fun v1 => ?_)
  intro h
  cases h
  have hk : (0, zi v1, σ) = out := hk
  subst hk
  exact gj_ret (pc := 4) (t := .int) dJ6_size_4 rfl ⟨rfl, rfl⟩ (fun h => h)
theorem q133 : (Jvm.Cond.initialized "LassoFinder$Statement") ∈ lw_all := lw_g (lw_at lw_m1 33 rfl) rfl
theorem q1152 : (Jvm.Cond.code ({ cls := "LassoFinder$Statement", name := "<init>", desc := "()V" } : Jvm.MethodName) prog_19_method_1_code (1 : Nat) (Option.none : Option Jvm.ClassFile.FieldType)) ∈ lw_all := lw_g (lw_at lw_m5 92 rfl) rfl
theorem q1153 : (Jvm.Cond.methodLink "LassoFinder$Statement" (3 : Nat) ({ cls := "java/lang/Object", name := "<init>", desc := "()V" } : Jvm.MethodName)) ∈ lw_all := lw_g (lw_at lw_m5 93 rfl) rfl
abbrev cX11_init : ByteArray := prog_19_method_1_code
def yX11_init : MethodName := ⟨RX11, "<init>", "()V"⟩
theorem dX11_init_0 : decode cX11_init 0 = .ok (.aload_n 0, 1) := by decide +kernel
theorem dX11_init_1 : decode cX11_init 1 = .ok (.invokespecial 3, 3) := by decide +kernel
theorem dX11_init_4 : decode cX11_init 4 = .ok (.return_, 1) := by decide +kernel
abbrev MX11_init : zT := (yX11_init, cX11_init, 1, (Option.none : Option Jvm.ClassFile.FieldType), [])
theorem plX11_init : zplain MX11_init 0 ∧ (zcodeW MX11_init ∈ lw_all ∧ Cond.initialized MX11_init.1.cls ∈ lw_all) := ⟨⟨by decide +kernel, by decide +kernel⟩, q1152, q133⟩
noncomputable def f_X11_init (x0 : Int) (σ : zM) : Option zO :=
  zgd (decide (0 ≤ x0)) <|
  some (0, ((3, 0) : zV), σ)
theorem c_X11_init {g : zG} {lv : Nat} {x0 : Int} {σ : zM} {out : zO} (h : f_X11_init x0 σ = some out) : Cj g (lv + 1) MX11_init [zr x0] σ out := by
  refine cj_go (ls := [(0, zr x0)]) (by decide) (Nat.le_of_ble_eq_true rfl) rfl (zgen h (fun r hk => ?_))
  unfold f_X11_init
  refine zst_ (gj_aload_n 0 (pc := 0) dX11_init_0 rfl) ?_
  refine gb_gd (fun hb => ?_)
  refine zst_ (gj_obj (pc := 1) (of_decide_eq_true hb) dX11_init_1 q1153 q152 q153 (by omega) (Nat.le_of_ble_eq_true rfl)) ?_
  intro h
  cases h
  have hk : (0, ((3, 0) : zV), σ) = out := hk
  subst hk
  exact gj_vret (pc := 4) dX11_init_4 rfl
theorem q386 : (Jvm.Cond.arrayOver (Jvm.ClassFile.FieldType.object "java/lang/Object")) ∈ lw_tbl := lw_at lw_m2 46 rfl
theorem q1262 : (Jvm.Cond.code ({ cls := "java/util/Arrays", name := "copyOf", desc := "([Ljava/lang/Object;ILjava/lang/Class;)[Ljava/lang/Object;" } : Jvm.MethodName) prog_48_method_120_code (4 : Nat) (Option.some (Jvm.ClassFile.FieldType.array (Jvm.ClassFile.FieldType.object "java/lang/Object")))) ∈ lw_all := lw_g (lw_at lw_m5 202 rfl) rfl
theorem q1263 : (Jvm.Cond.classLink "java/util/Arrays" (110 : Nat) "[Ljava/lang/Object;") ∈ lw_all := lw_g (lw_at lw_m5 203 rfl) rfl
theorem q1264 : (Jvm.Cond.classLink "java/util/Arrays" (2 : Nat) "java/lang/Object") ∈ lw_all := lw_g (lw_at lw_m5 204 rfl) rfl
abbrev cJ13_copyOf_3 : ByteArray := prog_48_method_120_code
def yJ13_copyOf_3 : MethodName := ⟨RJ13, "copyOf", "([Ljava/lang/Object;ILjava/lang/Class;)[Ljava/lang/Object;"⟩
theorem dJ13_copyOf_3_0 : decode cJ13_copyOf_3 0 = .ok (.aload_n 2, 1) := by decide +kernel
theorem dJ13_copyOf_3_1 : decode cJ13_copyOf_3 1 = .ok (.ldc 110, 2) := by decide +kernel
theorem dJ13_copyOf_3_3 : decode cJ13_copyOf_3 3 = .ok (.if_acmp .ne 10, 3) := by decide +kernel
theorem dJ13_copyOf_3_6 : decode cJ13_copyOf_3 6 = .ok (.iload_n 1, 1) := by decide +kernel
theorem dJ13_copyOf_3_7 : decode cJ13_copyOf_3 7 = .ok (.anewarray 2, 3) := by decide +kernel
theorem dJ13_copyOf_3_10 : decode cJ13_copyOf_3 10 = .ok (.goto 14, 3) := by decide +kernel
theorem dJ13_copyOf_3_13 : decode cJ13_copyOf_3 13 = .ok (.aload_n 2, 1) := by decide +kernel
theorem dJ13_copyOf_3_14 : decode cJ13_copyOf_3 14 = .ok (.invokevirtual 90, 3) := by decide +kernel
theorem dJ13_copyOf_3_17 : decode cJ13_copyOf_3 17 = .ok (.iload_n 1, 1) := by decide +kernel
theorem dJ13_copyOf_3_18 : decode cJ13_copyOf_3 18 = .ok (.invokestatic 95, 3) := by decide +kernel
theorem dJ13_copyOf_3_21 : decode cJ13_copyOf_3 21 = .ok (.checkcast 110, 3) := by decide +kernel
theorem dJ13_copyOf_3_24 : decode cJ13_copyOf_3 24 = .ok (.astore_n 3, 1) := by decide +kernel
theorem dJ13_copyOf_3_25 : decode cJ13_copyOf_3 25 = .ok (.aload_n 0, 1) := by decide +kernel
theorem dJ13_copyOf_3_26 : decode cJ13_copyOf_3 26 = .ok (.iconst 0, 1) := by decide +kernel
theorem dJ13_copyOf_3_27 : decode cJ13_copyOf_3 27 = .ok (.aload_n 3, 1) := by decide +kernel
theorem dJ13_copyOf_3_28 : decode cJ13_copyOf_3 28 = .ok (.iconst 0, 1) := by decide +kernel
theorem dJ13_copyOf_3_29 : decode cJ13_copyOf_3 29 = .ok (.aload_n 0, 1) := by decide +kernel
theorem dJ13_copyOf_3_30 : decode cJ13_copyOf_3 30 = .ok (.arraylength, 1) := by decide +kernel
theorem dJ13_copyOf_3_31 : decode cJ13_copyOf_3 31 = .ok (.iload_n 1, 1) := by decide +kernel
theorem dJ13_copyOf_3_32 : decode cJ13_copyOf_3 32 = .ok (.invokestatic 304, 3) := by decide +kernel
theorem dJ13_copyOf_3_35 : decode cJ13_copyOf_3 35 = .ok (.invokestatic 150, 3) := by decide +kernel
theorem dJ13_copyOf_3_38 : decode cJ13_copyOf_3 38 = .ok (.aload_n 3, 1) := by decide +kernel
theorem dJ13_copyOf_3_39 : decode cJ13_copyOf_3 39 = .ok (.areturn, 1) := by decide +kernel
abbrev MJ13_copyOf_3 : zT := (yJ13_copyOf_3, cJ13_copyOf_3, 4, (Option.some (Jvm.ClassFile.FieldType.array (Jvm.ClassFile.FieldType.object "java/lang/Object"))), [])
theorem plJ13_copyOf_3 : zplain MJ13_copyOf_3 3 ∧ (zcodeW MJ13_copyOf_3 ∈ lw_all ∧ Cond.initialized MJ13_copyOf_3.1.cls ∈ lw_all) := ⟨⟨by decide +kernel, by decide +kernel⟩, q1262, q120⟩
noncomputable def f_J13_copyOf_3_24 (x0 x1 t0 : Int) (σ : zM) : Option zO :=
  (zla σ 105 x0).bind fun v1 =>
  zlet (if x1 < v1 then x1 else v1) fun y2 =>
  (zcp σ 105 x0 0 t0 0 y2).bind fun σ3 =>
  some (0, zr t0, σ3)
theorem w_J13_copyOf_3_24 {g : zG} {lv : Nat} {out : zO} (x0 x1 t0 : Int) (σ : zM) {r : zO} (h : f_J13_copyOf_3_24 x0 x1 t0 σ = some r) (hk : (fun o : zO => o = out) r) : Gj g MJ13_copyOf_3 (lv + 1) 24 [(0, zr x0), (1, zi x1)] [zr t0] σ out := by
  revert h
  unfold f_J13_copyOf_3_24
  refine zst_ (gj_astore_n (pc := 24) (ls' := [(3, zr t0), (0, zr x0), (1, zi x1)]) dJ13_copyOf_3_24 (by decide) rfl) ?_
  refine zst_ (gj_aload_n 1 (pc := 25) dJ13_copyOf_3_25 rfl) ?_
  refine zst_ (gj_iconst (pc := 26) dJ13_copyOf_3_26 (by decide)) ?_
  refine zst_ (gj_aload_n 0 (pc := 27) dJ13_copyOf_3_27 rfl) ?_
  refine zst_ (gj_iconst (pc := 28) dJ13_copyOf_3_28 (by decide)) ?_
  refine zst_ (gj_aload_n 1 (pc := 29) dJ13_copyOf_3_29 rfl) ?_
  refine gb_alen (pc := 30) (k := 105) (by decide) dJ13_copyOf_3_30 (fun v1 => ?_)
  refine zst_ (gj_iload_n 2 (pc := 31) dJ13_copyOf_3_31 rfl) ?_
  refine zst_ (gj_mmin (pc := 32) dJ13_copyOf_3_32 q476 q477 q119 q478 (by omega) (Nat.le_of_ble_eq_true rfl)) ?_
  refine gb_let (fun y2 => ?_)
  refine gb_acopy (pc := 35) (k := 105) (Or.inr rfl) (by omega) (Nat.le_of_ble_eq_true rfl) dJ13_copyOf_3_35 q479 q481 q480 q121 (fun σ3 => ?_)
  refine zst_ (gj_aload_n 0 (pc := 38) dJ13_copyOf_3_38 rfl) ?_
  intro h
  cases h
  have hk : (0, zr t0, σ3) = out := hk
  subst hk
  exact gj_aret (pc := 39) dJ13_copyOf_3_39 rfl (Or.inr ⟨_, rfl⟩)
noncomputable def f_J13_copyOf_3 (x0 x1 x2 : Int) (σ : zM) : Option zO :=
  zgd (zq23 x2) <|
  (znA σ 105 x1).bind fun σ1 =>
  f_J13_copyOf_3_24 x0 x1 (↑(zN σ) : Int) σ1
theorem c_J13_copyOf_3 {g : zG} {lv : Nat} {x0 x1 x2 : Int} {σ : zM} {out : zO} (h : f_J13_copyOf_3 x0 x1 x2 σ = some out) : Cj g (lv + 1) MJ13_copyOf_3 [zr x0, zi x1, zq x2] σ out := by
  refine cj_go (ls := [(0, zr x0), (1, zi x1), (2, zq x2)]) (by decide) (Nat.le_of_ble_eq_true rfl) rfl (zgen h (fun r hk => ?_))
  unfold f_J13_copyOf_3
  refine zst_ (gj_aloadQ_n 2 (pc := 0) dJ13_copyOf_3_0 rfl) ?_
  refine zst_ (gj_ldcM (pc := 1) dJ13_copyOf_3_1 q1263) ?_
  refine gb_gd (fun hb => ?_)
  obtain rfl := zq23E hb
  refine zst_ (gj_acmp_same 13 (pc := 3) dJ13_copyOf_3_3 (by decide)) ?_
  refine zst_ (gj_iload_n 1 (pc := 6) dJ13_copyOf_3_6 rfl) ?_
  refine gb_anew (pc := 7) (k := 105) ⟨by decide, by decide⟩ rfl dJ13_copyOf_3_7 q1264 q386 (fun σ1 => ?_)
  refine zst_ (gj_goto 24 (pc := 10) dJ13_copyOf_3_10 (by decide)) ?_
  refine zst_ (gj_sub [0, 1] rfl) ?_
  exact fun h => w_J13_copyOf_3_24 x0 x1 (↑(zN σ) : Int) σ1 h hk
theorem q1228 : (Jvm.Cond.code ({ cls := "java/util/Arrays", name := "copyOf", desc := "([Ljava/lang/Object;I)[Ljava/lang/Object;" } : Jvm.MethodName) prog_48_method_119_code (2 : Nat) (Option.some (Jvm.ClassFile.FieldType.array (Jvm.ClassFile.FieldType.object "java/lang/Object")))) ∈ lw_all := lw_g (lw_at lw_m5 168 rfl) rfl
theorem q1229 : (Jvm.Cond.methodLink "java/util/Arrays" (86 : Nat) ({ cls := "java/lang/Object", name := "getClass", desc := "()Ljava/lang/Class;" } : Jvm.MethodName)) ∈ lw_all := lw_g (lw_at lw_m5 169 rfl) rfl
theorem q1230 : (Jvm.Cond.instanceMethod ({ cls := "java/lang/Object", name := "getClass", desc := "()Ljava/lang/Class;" } : Jvm.MethodName)) ∈ lw_all := lw_g (lw_at lw_m5 170 rfl) rfl
theorem q1259 : (Jvm.Cond.native ({ cls := "java/lang/Object", name := "getClass", desc := "()Ljava/lang/Class;" } : Jvm.MethodName)) ∈ lw_all := lw_g (lw_at lw_m5 199 rfl) rfl
theorem q1260 : (Jvm.Cond.methodLink "java/util/Arrays" (300 : Nat) ({ cls := "java/util/Arrays", name := "copyOf", desc := "([Ljava/lang/Object;ILjava/lang/Class;)[Ljava/lang/Object;" } : Jvm.MethodName)) ∈ lw_all := lw_g (lw_at lw_m5 200 rfl) rfl
theorem q1261 : (Jvm.Cond.static ({ cls := "java/util/Arrays", name := "copyOf", desc := "([Ljava/lang/Object;ILjava/lang/Class;)[Ljava/lang/Object;" } : Jvm.MethodName)) ∈ lw_all := lw_g (lw_at lw_m5 201 rfl) rfl
theorem q2478 : (Jvm.Cond.selects "[Ljava/lang/Object;" ({ cls := "java/lang/Object", name := "getClass", desc := "()Ljava/lang/Class;" } : Jvm.MethodName) ({ cls := "java/lang/Object", name := "getClass", desc := "()Ljava/lang/Class;" } : Jvm.MethodName)) ∈ lw_all := lw_g (lw_at lw_m10 218 rfl) rfl
theorem q2479 : (Jvm.Cond.declares ({ cls := "java/lang/Object", name := "getClass", desc := "()Ljava/lang/Class;" } : Jvm.MethodName)) ∈ lw_tbl := lw_at lw_m10 219 rfl
abbrev cJ13_copyOf_2 : ByteArray := prog_48_method_119_code
def yJ13_copyOf_2 : MethodName := ⟨RJ13, "copyOf", "([Ljava/lang/Object;I)[Ljava/lang/Object;"⟩
theorem dJ13_copyOf_2_0 : decode cJ13_copyOf_2 0 = .ok (.aload_n 0, 1) := by decide +kernel
theorem dJ13_copyOf_2_1 : decode cJ13_copyOf_2 1 = .ok (.iload_n 1, 1) := by decide +kernel
theorem dJ13_copyOf_2_2 : decode cJ13_copyOf_2 2 = .ok (.aload_n 0, 1) := by decide +kernel
theorem dJ13_copyOf_2_3 : decode cJ13_copyOf_2 3 = .ok (.invokevirtual 86, 3) := by decide +kernel
theorem dJ13_copyOf_2_6 : decode cJ13_copyOf_2 6 = .ok (.invokestatic 300, 3) := by decide +kernel
theorem dJ13_copyOf_2_9 : decode cJ13_copyOf_2 9 = .ok (.areturn, 1) := by decide +kernel
abbrev MJ13_copyOf_2 : zT := (yJ13_copyOf_2, cJ13_copyOf_2, 2, (Option.some (Jvm.ClassFile.FieldType.array (Jvm.ClassFile.FieldType.object "java/lang/Object"))), [])
theorem plJ13_copyOf_2 : zplain MJ13_copyOf_2 2 ∧ (zcodeW MJ13_copyOf_2 ∈ lw_all ∧ Cond.initialized MJ13_copyOf_2.1.cls ∈ lw_all) := ⟨⟨by decide +kernel, by decide +kernel⟩, q1228, q120⟩
noncomputable def f_J13_copyOf_2 (x0 x1 : Int) (σ : zM) : Option zO :=
  zgd (zis σ 105 x0) <|
  zcr (f_J13_copyOf_3 x0 x1 (-23) σ) fun v1 σ2 =>
  some (0, zr v1, σ2)
theorem c_J13_copyOf_2 {g : zG} {lv : Nat} {x0 x1 : Int} {σ : zM} {out : zO} (h : f_J13_copyOf_2 x0 x1 σ = some out) : Cj g (lv + 2) MJ13_copyOf_2 [zr x0, zi x1] σ out := by
  refine cj_go (ls := [(0, zr x0), (1, zi x1)]) (by decide) (Nat.le_of_ble_eq_true rfl) rfl (zgen h (fun r hk => ?_))
  unfold f_J13_copyOf_2
  refine zst_ (gj_aload_n 0 (pc := 0) dJ13_copyOf_2_0 rfl) ?_
  refine zst_ (gj_iload_n 1 (pc := 1) dJ13_copyOf_2_1 rfl) ?_
  refine zst_ (gj_aload_n 0 (pc := 2) dJ13_copyOf_2_2 rfl) ?_
  refine gb_gd (fun hb => ?_)
  refine zst_ (gj_getC (pc := 3) (zisE hb).1 (zisE hb).2 (by omega) (Nat.le_of_ble_eq_true rfl) dJ13_copyOf_2_3 q1229 q2479 q2478 q1230 q1259) ?_
  refine gb_callA (pc := 6) (as := [zr x0, zi x1, zq (-23)]) (rest := []) (zCl.of (zLk_S (M := MJ13_copyOf_2) plJ13_copyOf_3.1 rfl dJ13_copyOf_2_6 q1260 q1261 q120 q1262) plJ13_copyOf_3 (Nat.le_of_ble_eq_true rfl) (fun h => c_J13_copyOf_3 h)) (fun v1 σ2 => ?_)
  intro h
  cases h
  have hk : (0, zr v1, σ2) = out := hk
  subst hk
  exact gj_aret (pc := 9) dJ13_copyOf_2_9 rfl (Or.inr ⟨_, rfl⟩)
theorem q674 : (Jvm.Cond.fieldLink "java/util/ArrayList" (9 : Nat) "java/util/ArrayList" "elementData" "[Ljava/lang/Object;") ∈ lw_all := lw_g (lw_at lw_m3 94 rfl) rfl
theorem q1222 : (Jvm.Cond.code ({ cls := "java/util/ArrayList", name := "grow", desc := "(I)[Ljava/lang/Object;" } : Jvm.MethodName) prog_47_method_6_code (4 : Nat) (Option.some (Jvm.ClassFile.FieldType.array (Jvm.ClassFile.FieldType.object "java/lang/Object")))) ∈ lw_all := lw_g (lw_at lw_m5 162 rfl) rfl
theorem q1225 : (Jvm.Cond.methodLink "java/util/ArrayList" (73 : Nat) ({ cls := "jdk/internal/util/ArraysSupport", name := "newLength", desc := "(III)I" } : Jvm.MethodName)) ∈ lw_all := lw_g (lw_at lw_m5 165 rfl) rfl
theorem q1226 : (Jvm.Cond.methodLink "java/util/ArrayList" (66 : Nat) ({ cls := "java/util/Arrays", name := "copyOf", desc := "([Ljava/lang/Object;I)[Ljava/lang/Object;" } : Jvm.MethodName)) ∈ lw_all := lw_g (lw_at lw_m5 166 rfl) rfl
theorem q1227 : (Jvm.Cond.static ({ cls := "java/util/Arrays", name := "copyOf", desc := "([Ljava/lang/Object;I)[Ljava/lang/Object;" } : Jvm.MethodName)) ∈ lw_all := lw_g (lw_at lw_m5 167 rfl) rfl
theorem fl2201 : zfl 2201 2 "java/util/ArrayList" "elementData" "[Ljava/lang/Object;" false := ⟨rfl, rfl, rfl⟩
theorem fr2201 {g : zG} {v : Int} : zok g (2, v) → zokt g (zft 2201) v := fun h => h
abbrev cJ6_grow_2 : ByteArray := prog_47_method_6_code
def yJ6_grow_2 : MethodName := ⟨RJ6, "grow", "(I)[Ljava/lang/Object;"⟩
theorem dJ6_grow_2_0 : decode cJ6_grow_2 0 = .ok (.aload_n 0, 1) := by decide +kernel
theorem dJ6_grow_2_1 : decode cJ6_grow_2 1 = .ok (.getfield 9, 3) := by decide +kernel
theorem dJ6_grow_2_4 : decode cJ6_grow_2 4 = .ok (.arraylength, 1) := by decide +kernel
theorem dJ6_grow_2_5 : decode cJ6_grow_2 5 = .ok (.istore_n 2, 1) := by decide +kernel
theorem dJ6_grow_2_6 : decode cJ6_grow_2 6 = .ok (.iload_n 2, 1) := by decide +kernel
theorem dJ6_grow_2_7 : decode cJ6_grow_2 7 = .ok (.ifCond .gt 13, 3) := by decide +kernel
theorem dJ6_grow_2_10 : decode cJ6_grow_2 10 = .ok (.aload_n 0, 1) := by decide +kernel
theorem dJ6_grow_2_11 : decode cJ6_grow_2 11 = .ok (.getfield 9, 3) := by decide +kernel
theorem dJ6_grow_2_14 : decode cJ6_grow_2 14 = .ok (.getstatic 39, 3) := by decide +kernel
theorem dJ6_grow_2_17 : decode cJ6_grow_2 17 = .ok (.if_acmp .eq 28, 3) := by decide +kernel
theorem dJ6_grow_2_20 : decode cJ6_grow_2 20 = .ok (.iload_n 2, 1) := by decide +kernel
theorem dJ6_grow_2_21 : decode cJ6_grow_2 21 = .ok (.iload_n 1, 1) := by decide +kernel
theorem dJ6_grow_2_22 : decode cJ6_grow_2 22 = .ok (.iload_n 2, 1) := by decide +kernel
theorem dJ6_grow_2_23 : decode cJ6_grow_2 23 = .ok (.isub, 1) := by decide +kernel
theorem dJ6_grow_2_24 : decode cJ6_grow_2 24 = .ok (.iload_n 2, 1) := by decide +kernel
theorem dJ6_grow_2_25 : decode cJ6_grow_2 25 = .ok (.iconst 1, 1) := by decide +kernel
theorem dJ6_grow_2_26 : decode cJ6_grow_2 26 = .ok (.ishr, 1) := by decide +kernel
theorem dJ6_grow_2_27 : decode cJ6_grow_2 27 = .ok (.invokestatic 73, 3) := by decide +kernel
theorem dJ6_grow_2_30 : decode cJ6_grow_2 30 = .ok (.istore_n 3, 1) := by decide +kernel
theorem dJ6_grow_2_31 : decode cJ6_grow_2 31 = .ok (.aload_n 0, 1) := by decide +kernel
theorem dJ6_grow_2_32 : decode cJ6_grow_2 32 = .ok (.aload_n 0, 1) := by decide +kernel
theorem dJ6_grow_2_33 : decode cJ6_grow_2 33 = .ok (.getfield 9, 3) := by decide +kernel
theorem dJ6_grow_2_36 : decode cJ6_grow_2 36 = .ok (.iload_n 3, 1) := by decide +kernel
theorem dJ6_grow_2_37 : decode cJ6_grow_2 37 = .ok (.invokestatic 66, 3) := by decide +kernel
theorem dJ6_grow_2_40 : decode cJ6_grow_2 40 = .ok (.dup_x1, 1) := by decide +kernel
theorem dJ6_grow_2_41 : decode cJ6_grow_2 41 = .ok (.putfield 9, 3) := by decide +kernel
theorem dJ6_grow_2_44 : decode cJ6_grow_2 44 = .ok (.areturn, 1) := by decide +kernel
theorem dJ6_grow_2_45 : decode cJ6_grow_2 45 = .ok (.aload_n 0, 1) := by decide +kernel
theorem dJ6_grow_2_46 : decode cJ6_grow_2 46 = .ok (.bipush 10, 2) := by decide +kernel
theorem dJ6_grow_2_48 : decode cJ6_grow_2 48 = .ok (.iload_n 1, 1) := by decide +kernel
theorem dJ6_grow_2_49 : decode cJ6_grow_2 49 = .ok (.invokestatic 79, 3) := by decide +kernel
theorem dJ6_grow_2_52 : decode cJ6_grow_2 52 = .ok (.anewarray 7, 3) := by decide +kernel
theorem dJ6_grow_2_55 : decode cJ6_grow_2 55 = .ok (.dup_x1, 1) := by decide +kernel
theorem dJ6_grow_2_56 : decode cJ6_grow_2 56 = .ok (.putfield 9, 3) := by decide +kernel
theorem dJ6_grow_2_59 : decode cJ6_grow_2 59 = .ok (.areturn, 1) := by decide +kernel
abbrev MJ6_grow_2 : zT := (yJ6_grow_2, cJ6_grow_2, 4, (Option.some (Jvm.ClassFile.FieldType.array (Jvm.ClassFile.FieldType.object "java/lang/Object"))), [])
theorem plJ6_grow_2 : zplain MJ6_grow_2 1 ∧ (zcodeW MJ6_grow_2 ∈ lw_all ∧ Cond.initialized MJ6_grow_2.1.cls ∈ lw_all) := ⟨⟨by decide +kernel, by decide +kernel⟩, q1222, q113⟩
noncomputable def f_J6_grow_2_20 (x0 x1 x2 : Int) (σ : zM) : Option zO :=
  zci (f_J11_newLength x2 (zsub x1 x2) (zshr x2 1) σ) fun v1 σ2 =>
  (zgf σ2 2201 x0).bind fun v3 =>
  zcr (f_J13_copyOf_2 v3 v1 σ2) fun v4 σ5 =>
  (zpf σ5 2201 x0 v4).bind fun σ6 =>
  some (0, zr v4, σ6)
theorem w_J6_grow_2_20 {g : zG} {lv : Nat} {out : zO} (x0 x1 x2 : Int) (σ : zM) {r : zO} (h : f_J6_grow_2_20 x0 x1 x2 σ = some r) (hk : (fun o : zO => o = out) r) : Gj g MJ6_grow_2 (lv + 3) 20 [(0, zr x0), (1, zi x1), (2, zi x2)] [] σ out := by
  revert h
  unfold f_J6_grow_2_20
  refine zst_ (gj_iload_n 2 (pc := 20) dJ6_grow_2_20 rfl) ?_
  refine zst_ (gj_iload_n 1 (pc := 21) dJ6_grow_2_21 rfl) ?_
  refine zst_ (gj_iload_n 2 (pc := 22) dJ6_grow_2_22 rfl) ?_
  refine zst_ (gj_isub (pc := 23) dJ6_grow_2_23) ?_
  refine zst_ (gj_iload_n 2 (pc := 24) dJ6_grow_2_24 rfl) ?_
  refine zst_ (gj_iconst (pc := 25) dJ6_grow_2_25 (by decide)) ?_
  refine zst_ (gj_ishr (pc := 26) dJ6_grow_2_26) ?_
  refine gb_callI (pc := 27) (as := [zi x2, zi (zsub x1 x2), zi (zshr x2 1)]) (rest := []) (zCl.of (zLk_S (M := MJ6_grow_2) plJ11_newLength.1 rfl dJ6_grow_2_27 q1225 q456 q118 q457) plJ11_newLength (Nat.le_of_ble_eq_true rfl) (fun h => c_J11_newLength h)) (fun v1 σ2 => ?_)
  refine zst_ (gj_istore_n (pc := 30) (ls' := [(3, zi v1), (0, zr x0), (1, zi x1), (2, zi x2)]) dJ6_grow_2_30 (by decide) rfl) ?_
  refine zst_ (gj_aload_n 1 (pc := 31) dJ6_grow_2_31 rfl) ?_
  refine zst_ (gj_aload_n 1 (pc := 32) dJ6_grow_2_32 rfl) ?_
  refine gb_get (pc := 33) fl2201 dJ6_grow_2_33 q674 (Or.inl rfl) (fun v3 => ?_)
  refine zst_ (gj_iload_n 0 (pc := 36) dJ6_grow_2_36 rfl) ?_
  refine gb_callA (pc := 37) (as := [zr v3, zi v1]) (rest := [zr x0]) (zCl.of (zLk_S (M := MJ6_grow_2) plJ13_copyOf_2.1 rfl dJ6_grow_2_37 q1226 q1227 q120 q1228) plJ13_copyOf_2 (Nat.le_of_ble_eq_true rfl) (fun h => c_J13_copyOf_2 h)) (fun v4 σ5 => ?_)
  refine zst_ (gj_dup_x1 (pc := 40) dJ6_grow_2_40 rfl rfl) ?_
  refine gb_put (pc := 41) fl2201 fr2201 dJ6_grow_2_41 q674 (Or.inl rfl) (fun σ6 => ?_)
  intro h
  cases h
  have hk : (0, zr v4, σ6) = out := hk
  subst hk
  exact gj_aret (pc := 44) dJ6_grow_2_44 rfl (Or.inr ⟨_, rfl⟩)
noncomputable def f_J6_grow_2 (x0 x1 : Int) (σ : zM) : Option zO :=
  (zgf σ 2201 x0).bind fun v1 =>
  (zla σ 105 v1).bind fun v2 =>
  if 0 < v2 then
    f_J6_grow_2_20 x0 x1 v2 σ
  else
    (zgf σ 2201 x0).bind fun v3 =>
    none
theorem c_J6_grow_2 {g : zG} {lv : Nat} {x0 x1 : Int} {σ : zM} {out : zO} (h : f_J6_grow_2 x0 x1 σ = some out) : Cj g (lv + 3) MJ6_grow_2 [zr x0, zi x1] σ out := by
  refine cj_go (ls := [(0, zr x0), (1, zi x1)]) (by decide) (Nat.le_of_ble_eq_true rfl) rfl (zgen h (fun r hk => ?_))
  unfold f_J6_grow_2
  refine zst_ (gj_aload_n 0 (pc := 0) dJ6_grow_2_0 rfl) ?_
  refine gb_get (pc := 1) fl2201 dJ6_grow_2_1 q674 (Or.inl rfl) (fun v1 => ?_)
  refine gb_alen (pc := 4) (k := 105) (by decide) dJ6_grow_2_4 (fun v2 => ?_)
  refine zst_ (gj_istore_n (pc := 5) (ls' := [(2, zi v2), (0, zr x0), (1, zi x1)]) dJ6_grow_2_5 (by decide) rfl) ?_
  refine zst_ (gj_iload_n 0 (pc := 6) dJ6_grow_2_6 rfl) ?_
  refine gb_if (gj_if_gt 20 (pc := 7) dJ6_grow_2_7 (by decide)) ?_ ?_
  · refine zst_ (gj_sub [1, 2, 0] rfl) ?_
    exact fun h => w_J6_grow_2_20 x0 x1 v2 σ h hk
  · refine zst_ (gj_aload_n 1 (pc := 10) dJ6_grow_2_10 rfl) ?_
    refine gb_get (pc := 11) fl2201 dJ6_grow_2_11 q674 (Or.inl rfl) (fun v3 => ?_)
    exact (fun h => by cases h)
theorem q1218 : (Jvm.Cond.code ({ cls := "java/util/ArrayList", name := "grow", desc := "()[Ljava/lang/Object;" } : Jvm.MethodName) prog_47_method_7_code (1 : Nat) (Option.some (Jvm.ClassFile.FieldType.array (Jvm.ClassFile.FieldType.object "java/lang/Object")))) ∈ lw_all := lw_g (lw_at lw_m5 158 rfl) rfl
theorem q1219 : (Jvm.Cond.methodLink "java/util/ArrayList" (69 : Nat) ({ cls := "java/util/ArrayList", name := "grow", desc := "(I)[Ljava/lang/Object;" } : Jvm.MethodName)) ∈ lw_all := lw_g (lw_at lw_m5 159 rfl) rfl
theorem q1221 : (Jvm.Cond.instanceMethod ({ cls := "java/util/ArrayList", name := "grow", desc := "(I)[Ljava/lang/Object;" } : Jvm.MethodName)) ∈ lw_all := lw_g (lw_at lw_m5 161 rfl) rfl
abbrev cJ6_grow : ByteArray := prog_47_method_7_code
def yJ6_grow : MethodName := ⟨RJ6, "grow", "()[Ljava/lang/Object;"⟩
theorem dJ6_grow_0 : decode cJ6_grow 0 = .ok (.aload_n 0, 1) := by decide +kernel
theorem dJ6_grow_1 : decode cJ6_grow 1 = .ok (.aload_n 0, 1) := by decide +kernel
theorem dJ6_grow_2 : decode cJ6_grow 2 = .ok (.getfield 48, 3) := by decide +kernel
theorem dJ6_grow_5 : decode cJ6_grow 5 = .ok (.iconst 1, 1) := by decide +kernel
theorem dJ6_grow_6 : decode cJ6_grow 6 = .ok (.iadd, 1) := by decide +kernel
theorem dJ6_grow_7 : decode cJ6_grow 7 = .ok (.invokevirtual 69, 3) := by decide +kernel
theorem dJ6_grow_10 : decode cJ6_grow 10 = .ok (.areturn, 1) := by decide +kernel
abbrev MJ6_grow : zT := (yJ6_grow, cJ6_grow, 1, (Option.some (Jvm.ClassFile.FieldType.array (Jvm.ClassFile.FieldType.object "java/lang/Object"))), [])
theorem plJ6_grow : zplain MJ6_grow 0 ∧ (zcodeW MJ6_grow ∈ lw_all ∧ Cond.initialized MJ6_grow.1.cls ∈ lw_all) := ⟨⟨by decide +kernel, by decide +kernel⟩, q1218, q113⟩
noncomputable def f_J6_grow (x0 : Int) (σ : zM) : Option zO :=
  (zgf σ 2202 x0).bind fun v1 =>
  zgd (zis σ 23 x0) <|
  zcr (f_J6_grow_2 x0 (zadd v1 1) σ) fun v2 σ3 =>
  some (0, zr v2, σ3)
theorem c_J6_grow {g : zG} {lv : Nat} {x0 : Int} {σ : zM} {out : zO} (h : f_J6_grow x0 σ = some out) : Cj g (lv + 4) MJ6_grow [zr x0] σ out := by
  refine cj_go (ls := [(0, zr x0)]) (by decide) (Nat.le_of_ble_eq_true rfl) rfl (zgen h (fun r hk => ?_))
  unfold f_J6_grow
  refine zst_ (gj_aload_n 0 (pc := 0) dJ6_grow_0 rfl) ?_
  refine zst_ (gj_aload_n 0 (pc := 1) dJ6_grow_1 rfl) ?_
  refine gb_get (pc := 2) fl2202 dJ6_grow_2 q675 (Or.inl rfl) (fun v1 => ?_)
  refine zst_ (gj_iconst (pc := 5) dJ6_grow_5 (by decide)) ?_
  refine zst_ (gj_iadd (pc := 6) dJ6_grow_6) ?_
  refine gb_gd (fun hb => ?_)
  refine gb_callA (pc := 7) (as := [zr x0, zi (zadd v1 1)]) (rest := []) (zCl.of (zLk_V (M := MJ6_grow) (ci := 22) (r := (RJ6, TJ6, 3)) plJ6_grow_2.1 rfl rfl (zisE hb).1 (zisE hb).2 dJ6_grow_7 q1219 q1221 qs9 q1222) plJ6_grow_2 (Nat.le_of_ble_eq_true rfl) (fun h => c_J6_grow_2 h)) (fun v2 σ3 => ?_)
  intro h
  cases h
  have hk : (0, zr v2, σ3) = out := hk
  subst hk
  exact gj_aret (pc := 10) dJ6_grow_10 rfl (Or.inr ⟨_, rfl⟩)
theorem q1214 : (Jvm.Cond.code ({ cls := "java/util/ArrayList", name := "add", desc := "(Ljava/lang/Object;[Ljava/lang/Object;I)V" } : Jvm.MethodName) prog_47_method_24_code (4 : Nat) (Option.none : Option Jvm.ClassFile.FieldType)) ∈ lw_all := lw_g (lw_at lw_m5 154 rfl) rfl
theorem q1215 : (Jvm.Cond.methodLink "java/util/ArrayList" (129 : Nat) ({ cls := "java/util/ArrayList", name := "grow", desc := "()[Ljava/lang/Object;" } : Jvm.MethodName)) ∈ lw_all := lw_g (lw_at lw_m5 155 rfl) rfl
theorem q1217 : (Jvm.Cond.instanceMethod ({ cls := "java/util/ArrayList", name := "grow", desc := "()[Ljava/lang/Object;" } : Jvm.MethodName)) ∈ lw_all := lw_g (lw_at lw_m5 157 rfl) rfl
abbrev cJ6_add_2 : ByteArray := prog_47_method_24_code
def yJ6_add_2 : MethodName := ⟨RJ6, "add", "(Ljava/lang/Object;[Ljava/lang/Object;I)V"⟩
theorem dJ6_add_2_0 : decode cJ6_add_2 0 = .ok (.iload_n 3, 1) := by decide +kernel
theorem dJ6_add_2_1 : decode cJ6_add_2 1 = .ok (.aload_n 2, 1) := by decide +kernel
theorem dJ6_add_2_2 : decode cJ6_add_2 2 = .ok (.arraylength, 1) := by decide +kernel
theorem dJ6_add_2_3 : decode cJ6_add_2 3 = .ok (.if_icmp .ne 8, 3) := by decide +kernel
theorem dJ6_add_2_6 : decode cJ6_add_2 6 = .ok (.aload_n 0, 1) := by decide +kernel
theorem dJ6_add_2_7 : decode cJ6_add_2 7 = .ok (.invokevirtual 129, 3) := by decide +kernel
theorem dJ6_add_2_10 : decode cJ6_add_2 10 = .ok (.astore_n 2, 1) := by decide +kernel
theorem dJ6_add_2_11 : decode cJ6_add_2 11 = .ok (.aload_n 2, 1) := by decide +kernel
theorem dJ6_add_2_12 : decode cJ6_add_2 12 = .ok (.iload_n 3, 1) := by decide +kernel
theorem dJ6_add_2_13 : decode cJ6_add_2 13 = .ok (.aload_n 1, 1) := by decide +kernel
theorem dJ6_add_2_14 : decode cJ6_add_2 14 = .ok (.aastore, 1) := by decide +kernel
theorem dJ6_add_2_15 : decode cJ6_add_2 15 = .ok (.aload_n 0, 1) := by decide +kernel
theorem dJ6_add_2_16 : decode cJ6_add_2 16 = .ok (.iload_n 3, 1) := by decide +kernel
theorem dJ6_add_2_17 : decode cJ6_add_2 17 = .ok (.iconst 1, 1) := by decide +kernel
theorem dJ6_add_2_18 : decode cJ6_add_2 18 = .ok (.iadd, 1) := by decide +kernel
theorem dJ6_add_2_19 : decode cJ6_add_2 19 = .ok (.putfield 48, 3) := by decide +kernel
theorem dJ6_add_2_22 : decode cJ6_add_2 22 = .ok (.return_, 1) := by decide +kernel
abbrev MJ6_add_2 : zT := (yJ6_add_2, cJ6_add_2, 4, (Option.none : Option Jvm.ClassFile.FieldType), [])
theorem plJ6_add_2 : zplain MJ6_add_2 3 ∧ (zcodeW MJ6_add_2 ∈ lw_all ∧ Cond.initialized MJ6_add_2.1.cls ∈ lw_all) := ⟨⟨by decide +kernel, by decide +kernel⟩, q1214, q113⟩
noncomputable def f_J6_add_2_11 (x0 x1 x2 x3 : Int) (σ : zM) : Option zO :=
  (zpr σ 105 x2 x3 x1).bind fun σ1 =>
  (zpf σ1 2202 x0 (zadd x3 1)).bind fun σ2 =>
  some (0, ((3, 0) : zV), σ2)
theorem w_J6_add_2_11 {g : zG} {lv : Nat} {out : zO} (x0 x1 x2 x3 : Int) (σ : zM) {r : zO} (h : f_J6_add_2_11 x0 x1 x2 x3 σ = some r) (hk : (fun o : zO => o = out) r) : Gj g MJ6_add_2 (lv + 5) 11 [(0, zr x0), (1, zr x1), (2, zr x2), (3, zi x3)] [] σ out := by
  revert h
  unfold f_J6_add_2_11
  refine zst_ (gj_aload_n 2 (pc := 11) dJ6_add_2_11 rfl) ?_
  refine zst_ (gj_iload_n 3 (pc := 12) dJ6_add_2_12 rfl) ?_
  refine zst_ (gj_aload_n 1 (pc := 13) dJ6_add_2_13 rfl) ?_
  refine gb_aast (pc := 14) (k := 105) ⟨by decide, by decide⟩ dJ6_add_2_14 (fun σ1 => ?_)
  refine zst_ (gj_aload_n 0 (pc := 15) dJ6_add_2_15 rfl) ?_
  refine zst_ (gj_iload_n 3 (pc := 16) dJ6_add_2_16 rfl) ?_
  refine zst_ (gj_iconst (pc := 17) dJ6_add_2_17 (by decide)) ?_
  refine zst_ (gj_iadd (pc := 18) dJ6_add_2_18) ?_
  refine gb_put (pc := 19) fl2202 fr2202 dJ6_add_2_19 q675 (Or.inl rfl) (fun σ2 => ?_)
  intro h
  cases h
  have hk : (0, ((3, 0) : zV), σ2) = out := hk
  subst hk
  exact gj_vret (pc := 22) dJ6_add_2_22 rfl
noncomputable def f_J6_add_2 (x0 x1 x2 x3 : Int) (σ : zM) : Option zO :=
  (zla σ 105 x2).bind fun v1 =>
  if x3 ≠ v1 then
    f_J6_add_2_11 x0 x1 x2 x3 σ
  else
    zgd (zis σ 23 x0) <|
    zcr (f_J6_grow x0 σ) fun v2 σ3 =>
    f_J6_add_2_11 x0 x1 v2 x3 σ3
theorem c_J6_add_2 {g : zG} {lv : Nat} {x0 x1 x2 x3 : Int} {σ : zM} {out : zO} (h : f_J6_add_2 x0 x1 x2 x3 σ = some out) : Cj g (lv + 5) MJ6_add_2 [zr x0, zr x1, zr x2, zi x3] σ out := by
  refine cj_go (ls := [(0, zr x0), (1, zr x1), (2, zr x2), (3, zi x3)]) (by decide) (Nat.le_of_ble_eq_true rfl) rfl (zgen h (fun r hk => ?_))
  unfold f_J6_add_2
  refine zst_ (gj_iload_n 3 (pc := 0) dJ6_add_2_0 rfl) ?_
  refine zst_ (gj_aload_n 2 (pc := 1) dJ6_add_2_1 rfl) ?_
  refine gb_alen (pc := 2) (k := 105) (by decide) dJ6_add_2_2 (fun v1 => ?_)
  refine gb_if (gj_icmp_ne 11 (pc := 3) dJ6_add_2_3 (by decide)) ?_ ?_
  · exact fun h => w_J6_add_2_11 x0 x1 x2 x3 σ h hk
  · refine zst_ (gj_aload_n 0 (pc := 6) dJ6_add_2_6 rfl) ?_
    refine gb_gd (fun hb => ?_)
    refine gb_callA (pc := 7) (as := [zr x0]) (rest := []) (zCl.of (zLk_V (M := MJ6_add_2) (ci := 22) (r := (RJ6, TJ6, 3)) plJ6_grow.1 rfl rfl (zisE hb).1 (zisE hb).2 dJ6_add_2_7 q1215 q1217 qs8 q1218) plJ6_grow (Nat.le_of_ble_eq_true rfl) (fun h => c_J6_grow h)) (fun v2 σ3 => ?_)
    refine zst_ (gj_astore_n (pc := 10) (ls' := [(2, zr v2), (0, zr x0), (1, zr x1), (3, zi x3)]) dJ6_add_2_10 (by decide) rfl) ?_
    refine zst_ (gj_sub [1, 2, 0, 3] rfl) ?_
    exact fun h => w_J6_add_2_11 x0 x1 v2 x3 σ3 h hk
theorem q677 : (Jvm.Cond.fieldLink "java/util/ArrayList" (63 : Nat) "java/util/ArrayList" "modCount" "I") ∈ lw_all := lw_g (lw_at lw_m3 97 rfl) rfl
theorem q678 : (Jvm.Cond.sameField "java/util/ArrayList" "java/util/AbstractList" "modCount" "I") ∈ lw_all := lw_g (lw_at lw_m3 98 rfl) rfl
theorem q1210 : (Jvm.Cond.code ({ cls := "java/util/ArrayList", name := "add", desc := "(Ljava/lang/Object;)Z" } : Jvm.MethodName) prog_47_method_25_code (2 : Nat) (Option.some Jvm.ClassFile.FieldType.boolean)) ∈ lw_all := lw_g (lw_at lw_m5 150 rfl) rfl
theorem q1211 : (Jvm.Cond.methodLink "java/util/ArrayList" (131 : Nat) ({ cls := "java/util/ArrayList", name := "add", desc := "(Ljava/lang/Object;[Ljava/lang/Object;I)V" } : Jvm.MethodName)) ∈ lw_all := lw_g (lw_at lw_m5 151 rfl) rfl
theorem q1213 : (Jvm.Cond.instanceMethod ({ cls := "java/util/ArrayList", name := "add", desc := "(Ljava/lang/Object;[Ljava/lang/Object;I)V" } : Jvm.MethodName)) ∈ lw_all := lw_g (lw_at lw_m5 153 rfl) rfl
theorem fl2200 : zfl 2200 0 "java/util/AbstractList" "modCount" "I" false := ⟨rfl, rfl, rfl⟩
theorem fr2200 {g : zG} {v : Int} : zok g (0, v) → zokt g (zft 2200) v := fun h => h
abbrev cJ6_add : ByteArray := prog_47_method_25_code
def yJ6_add : MethodName := ⟨RJ6, "add", "(Ljava/lang/Object;)Z"⟩
theorem dJ6_add_0 : decode cJ6_add 0 = .ok (.aload_n 0, 1) := by decide +kernel
theorem dJ6_add_1 : decode cJ6_add 1 = .ok (.dup, 1) := by decide +kernel
theorem dJ6_add_2 : decode cJ6_add 2 = .ok (.getfield 63, 3) := by decide +kernel
theorem dJ6_add_5 : decode cJ6_add 5 = .ok (.iconst 1, 1) := by decide +kernel
theorem dJ6_add_6 : decode cJ6_add 6 = .ok (.iadd, 1) := by decide +kernel
theorem dJ6_add_7 : decode cJ6_add 7 = .ok (.putfield 63, 3) := by decide +kernel
theorem dJ6_add_10 : decode cJ6_add 10 = .ok (.aload_n 0, 1) := by decide +kernel
theorem dJ6_add_11 : decode cJ6_add 11 = .ok (.aload_n 1, 1) := by decide +kernel
theorem dJ6_add_12 : decode cJ6_add 12 = .ok (.aload_n 0, 1) := by decide +kernel
theorem dJ6_add_13 : decode cJ6_add 13 = .ok (.getfield 9, 3) := by decide +kernel
theorem dJ6_add_16 : decode cJ6_add 16 = .ok (.aload_n 0, 1) := by decide +kernel
theorem dJ6_add_17 : decode cJ6_add 17 = .ok (.getfield 48, 3) := by decide +kernel
theorem dJ6_add_20 : decode cJ6_add 20 = .ok (.invokevirtual 131, 3) := by decide +kernel
theorem dJ6_add_23 : decode cJ6_add 23 = .ok (.iconst 1, 1) := by decide +kernel
theorem dJ6_add_24 : decode cJ6_add 24 = .ok (.ireturn, 1) := by decide +kernel
abbrev MJ6_add : zT := (yJ6_add, cJ6_add, 2, (Option.some Jvm.ClassFile.FieldType.boolean), [])
theorem plJ6_add : zplain MJ6_add 1 ∧ (zcodeW MJ6_add ∈ lw_all ∧ Cond.initialized MJ6_add.1.cls ∈ lw_all) := ⟨⟨by decide +kernel, by decide +kernel⟩, q1210, q113⟩
noncomputable def f_J6_add (x0 x1 : Int) (σ : zM) : Option zO :=
  (zgf σ 2200 x0).bind fun v1 =>
  (zpf σ 2200 x0 (zadd v1 1)).bind fun σ2 =>
  (zgf σ2 2201 x0).bind fun v3 =>
  (zgf σ2 2202 x0).bind fun v4 =>
  zgd (zis σ2 23 x0) <|
  zcv (f_J6_add_2 x0 x1 v3 v4 σ2) fun σ5 =>
  zgd (z01 1) <|
  some (0, zi 1, σ5)
theorem c_J6_add {g : zG} {lv : Nat} {x0 x1 : Int} {σ : zM} {out : zO} (h : f_J6_add x0 x1 σ = some out) : Cj g (lv + 6) MJ6_add [zr x0, zr x1] σ out := by
  refine cj_go (ls := [(0, zr x0), (1, zr x1)]) (by decide) (Nat.le_of_ble_eq_true rfl) rfl (zgen h (fun r hk => ?_))
  unfold f_J6_add
  refine zst_ (gj_aload_n 0 (pc := 0) dJ6_add_0 rfl) ?_
  refine zst_ (gj_dup (pc := 1) dJ6_add_1 rfl) ?_
  refine gb_get (pc := 2) fl2200 dJ6_add_2 q677 (Or.inr q678) (fun v1 => ?_)
  refine zst_ (gj_iconst (pc := 5) dJ6_add_5 (by decide)) ?_
  refine zst_ (gj_iadd (pc := 6) dJ6_add_6) ?_
  refine gb_put (pc := 7) fl2200 fr2200 dJ6_add_7 q677 (Or.inr q678) (fun σ2 => ?_)
  refine zst_ (gj_aload_n 0 (pc := 10) dJ6_add_10 rfl) ?_
  refine zst_ (gj_aload_n 1 (pc := 11) dJ6_add_11 rfl) ?_
  refine zst_ (gj_aload_n 0 (pc := 12) dJ6_add_12 rfl) ?_
  refine gb_get (pc := 13) fl2201 dJ6_add_13 q674 (Or.inl rfl) (fun v3 => ?_)
  refine zst_ (gj_aload_n 0 (pc := 16) dJ6_add_16 rfl) ?_
  refine gb_get (pc := 17) fl2202 dJ6_add_17 q675 (Or.inl rfl) (fun v4 => ?_)
  refine gb_gd (fun hb => ?_)
  refine gb_callV (pc := 20) (as := [zr x0, zr x1, zr v3, zi v4]) (rest := []) (zCl.of (zLk_V (M := MJ6_add) (ci := 22) (r := (RJ6, TJ6, 3)) plJ6_add_2.1 rfl rfl (zisE hb).1 (zisE hb).2 dJ6_add_20 q1211 q1213 qs7 q1214) plJ6_add_2 (Nat.le_of_ble_eq_true rfl) (fun h => c_J6_add_2 h)) (fun σ5 => ?_)
  refine zst_ (gj_iconst (pc := 23) dJ6_add_23 (by decide)) ?_
  refine gb_gd (fun hb => ?_)
  intro h
  cases h
  have hk : (0, zi 1, σ5) = out := hk
  subst hk
  exact gj_ret (pc := 24) (t := .boolean) dJ6_add_24 rfl ⟨rfl, rfl⟩ (fun _ => z01E hb)
theorem q134 : (Jvm.Cond.initialized "java/util/Objects") ∈ lw_all := lw_g (lw_at lw_m1 34 rfl) rfl
theorem q1272 : (Jvm.Cond.code ({ cls := "java/util/Objects", name := "checkIndex", desc := "(II)I" } : Jvm.MethodName) prog_51_method_17_code (2 : Nat) (Option.some Jvm.ClassFile.FieldType.int)) ∈ lw_all := lw_g (lw_at lw_m5 212 rfl) rfl
theorem q1273 : (Jvm.Cond.methodLink "java/util/Objects" (105 : Nat) ({ cls := "jdk/internal/util/Preconditions", name := "checkIndex", desc := "(IILjava/util/function/BiFunction;)I" } : Jvm.MethodName)) ∈ lw_all := lw_g (lw_at lw_m5 213 rfl) rfl
abbrev cJ21_checkIndex : ByteArray := prog_51_method_17_code
def yJ21_checkIndex : MethodName := ⟨RJ21, "checkIndex", "(II)I"⟩
theorem dJ21_checkIndex_0 : decode cJ21_checkIndex 0 = .ok (.iload_n 0, 1) := by decide +kernel
theorem dJ21_checkIndex_1 : decode cJ21_checkIndex 1 = .ok (.iload_n 1, 1) := by decide +kernel
theorem dJ21_checkIndex_2 : decode cJ21_checkIndex 2 = .ok (.aconst_null, 1) := by decide +kernel
theorem dJ21_checkIndex_3 : decode cJ21_checkIndex 3 = .ok (.invokestatic 105, 3) := by decide +kernel
theorem dJ21_checkIndex_6 : decode cJ21_checkIndex 6 = .ok (.ireturn, 1) := by decide +kernel
abbrev MJ21_checkIndex : zT := (yJ21_checkIndex, cJ21_checkIndex, 2, (Option.some Jvm.ClassFile.FieldType.int), [])
theorem plJ21_checkIndex : zplain MJ21_checkIndex 2 ∧ (zcodeW MJ21_checkIndex ∈ lw_all ∧ Cond.initialized MJ21_checkIndex.1.cls ∈ lw_all) := ⟨⟨by decide +kernel, by decide +kernel⟩, q1272, q134⟩
noncomputable def f_J21_checkIndex (x0 x1 : Int) (σ : zM) : Option zO :=
  zci (f_J14_checkIndex x0 x1 (-1) σ) fun v1 σ2 =>
  some (0, zi v1, σ2)
theorem c_J21_checkIndex {g : zG} {lv : Nat} {x0 x1 : Int} {σ : zM} {out : zO} (h : f_J21_checkIndex x0 x1 σ = some out) : Cj g (lv + 1) MJ21_checkIndex [zi x0, zi x1] σ out := by
  refine cj_go (ls := [(0, zi x0), (1, zi x1)]) (by decide) (Nat.le_of_ble_eq_true rfl) rfl (zgen h (fun r hk => ?_))
  unfold f_J21_checkIndex
  refine zst_ (gj_iload_n 0 (pc := 0) dJ21_checkIndex_0 rfl) ?_
  refine zst_ (gj_iload_n 1 (pc := 1) dJ21_checkIndex_1 rfl) ?_
  refine zst_ (gj_null (pc := 2) dJ21_checkIndex_2) ?_
  refine zst_ gj_rq ?_
  refine gb_callI (pc := 3) (as := [zi x0, zi x1, zq (-1)]) (rest := []) (zCl.of (zLk_S (M := MJ21_checkIndex) plJ14_checkIndex.1 rfl dJ21_checkIndex_3 q1273 q903 q122 q904) plJ14_checkIndex (Nat.le_of_ble_eq_true rfl) (fun h => c_J14_checkIndex h)) (fun v1 σ2 => ?_)
  intro h
  cases h
  have hk : (0, zi v1, σ2) = out := hk
  subst hk
  exact gj_ret (pc := 6) (t := .int) dJ21_checkIndex_6 rfl ⟨rfl, rfl⟩ (fun h => h)
theorem q1277 : (Jvm.Cond.code ({ cls := "java/util/ArrayList", name := "elementData", desc := "(I)Ljava/lang/Object;" } : Jvm.MethodName) prog_47_method_18_code (2 : Nat) (Option.some (Jvm.ClassFile.FieldType.object "java/lang/Object"))) ∈ lw_all := lw_g (lw_at lw_m5 217 rfl) rfl
abbrev cJ6_elementData : ByteArray := prog_47_method_18_code
def yJ6_elementData : MethodName := ⟨RJ6, "elementData", "(I)Ljava/lang/Object;"⟩
theorem dJ6_elementData_0 : decode cJ6_elementData 0 = .ok (.aload_n 0, 1) := by decide +kernel
theorem dJ6_elementData_1 : decode cJ6_elementData 1 = .ok (.getfield 9, 3) := by decide +kernel
theorem dJ6_elementData_4 : decode cJ6_elementData 4 = .ok (.iload_n 1, 1) := by decide +kernel
theorem dJ6_elementData_5 : decode cJ6_elementData 5 = .ok (.aaload, 1) := by decide +kernel
theorem dJ6_elementData_6 : decode cJ6_elementData 6 = .ok (.areturn, 1) := by decide +kernel
abbrev MJ6_elementData : zT := (yJ6_elementData, cJ6_elementData, 2, (Option.some (Jvm.ClassFile.FieldType.object "java/lang/Object")), [])
theorem plJ6_elementData : zplain MJ6_elementData 1 ∧ (zcodeW MJ6_elementData ∈ lw_all ∧ Cond.initialized MJ6_elementData.1.cls ∈ lw_all) := ⟨⟨by decide +kernel, by decide +kernel⟩, q1277, q113⟩
noncomputable def f_J6_elementData (x0 x1 : Int) (σ : zM) : Option zO :=
  (zgf σ 2201 x0).bind fun v1 =>
  (zga σ 105 v1 x1).bind fun v2 =>
  some (0, zr v2, σ)
theorem c_J6_elementData {g : zG} {lv : Nat} {x0 x1 : Int} {σ : zM} {out : zO} (h : f_J6_elementData x0 x1 σ = some out) : Cj g (lv) MJ6_elementData [zr x0, zi x1] σ out := by
  refine cj_go (ls := [(0, zr x0), (1, zi x1)]) (by decide) (Nat.le_of_ble_eq_true rfl) rfl (zgen h (fun r hk => ?_))
  unfold f_J6_elementData
  refine zst_ (gj_aload_n 0 (pc := 0) dJ6_elementData_0 rfl) ?_
  refine gb_get (pc := 1) fl2201 dJ6_elementData_1 q674 (Or.inl rfl) (fun v1 => ?_)
  refine zst_ (gj_iload_n 1 (pc := 4) dJ6_elementData_4 rfl) ?_
  refine gb_aald (pc := 5) (k := 105) ⟨by decide, by decide⟩ dJ6_elementData_5 (fun v2 => ?_)
  intro h
  cases h
  have hk : (0, zr v2, σ) = out := hk
  subst hk
  exact gj_aret (pc := 6) dJ6_elementData_6 rfl (Or.inl ⟨_, rfl⟩)
theorem q1269 : (Jvm.Cond.code ({ cls := "java/util/ArrayList", name := "get", desc := "(I)Ljava/lang/Object;" } : Jvm.MethodName) prog_47_method_20_code (2 : Nat) (Option.some (Jvm.ClassFile.FieldType.object "java/lang/Object"))) ∈ lw_all := lw_g (lw_at lw_m5 209 rfl) rfl
theorem q1270 : (Jvm.Cond.methodLink "java/util/ArrayList" (118 : Nat) ({ cls := "java/util/Objects", name := "checkIndex", desc := "(II)I" } : Jvm.MethodName)) ∈ lw_all := lw_g (lw_at lw_m5 210 rfl) rfl
theorem q1271 : (Jvm.Cond.static ({ cls := "java/util/Objects", name := "checkIndex", desc := "(II)I" } : Jvm.MethodName)) ∈ lw_all := lw_g (lw_at lw_m5 211 rfl) rfl
theorem q1274 : (Jvm.Cond.methodLink "java/util/ArrayList" (123 : Nat) ({ cls := "java/util/ArrayList", name := "elementData", desc := "(I)Ljava/lang/Object;" } : Jvm.MethodName)) ∈ lw_all := lw_g (lw_at lw_m5 214 rfl) rfl
theorem q1275 : (Jvm.Cond.instanceMethod ({ cls := "java/util/ArrayList", name := "elementData", desc := "(I)Ljava/lang/Object;" } : Jvm.MethodName)) ∈ lw_all := lw_g (lw_at lw_m5 215 rfl) rfl
theorem q1276 : (Jvm.Cond.selects "java/util/ArrayList" ({ cls := "java/util/ArrayList", name := "elementData", desc := "(I)Ljava/lang/Object;" } : Jvm.MethodName) ({ cls := "java/util/ArrayList", name := "elementData", desc := "(I)Ljava/lang/Object;" } : Jvm.MethodName)) ∈ lw_all := lw_g (lw_at lw_m5 216 rfl) rfl
abbrev cJ6_get : ByteArray := prog_47_method_20_code
def yJ6_get : MethodName := ⟨RJ6, "get", "(I)Ljava/lang/Object;"⟩
theorem dJ6_get_0 : decode cJ6_get 0 = .ok (.iload_n 1, 1) := by decide +kernel
theorem dJ6_get_1 : decode cJ6_get 1 = .ok (.aload_n 0, 1) := by decide +kernel
theorem dJ6_get_2 : decode cJ6_get 2 = .ok (.getfield 48, 3) := by decide +kernel
theorem dJ6_get_5 : decode cJ6_get 5 = .ok (.invokestatic 118, 3) := by decide +kernel
theorem dJ6_get_8 : decode cJ6_get 8 = .ok (.pop, 1) := by decide +kernel
theorem dJ6_get_9 : decode cJ6_get 9 = .ok (.aload_n 0, 1) := by decide +kernel
theorem dJ6_get_10 : decode cJ6_get 10 = .ok (.iload_n 1, 1) := by decide +kernel
theorem dJ6_get_11 : decode cJ6_get 11 = .ok (.invokevirtual 123, 3) := by decide +kernel
theorem dJ6_get_14 : decode cJ6_get 14 = .ok (.areturn, 1) := by decide +kernel
abbrev MJ6_get : zT := (yJ6_get, cJ6_get, 2, (Option.some (Jvm.ClassFile.FieldType.object "java/lang/Object")), [])
theorem plJ6_get : zplain MJ6_get 1 ∧ (zcodeW MJ6_get ∈ lw_all ∧ Cond.initialized MJ6_get.1.cls ∈ lw_all) := ⟨⟨by decide +kernel, by decide +kernel⟩, q1269, q113⟩
noncomputable def f_J6_get (x0 x1 : Int) (σ : zM) : Option zO :=
  (zgf σ 2202 x0).bind fun v1 =>
  zci (f_J21_checkIndex x1 v1 σ) fun v2 σ3 =>
  zgd (zis σ3 23 x0) <|
  zcr (f_J6_elementData x0 x1 σ3) fun v4 σ5 =>
  some (0, zr v4, σ5)
theorem c_J6_get {g : zG} {lv : Nat} {x0 x1 : Int} {σ : zM} {out : zO} (h : f_J6_get x0 x1 σ = some out) : Cj g (lv + 2) MJ6_get [zr x0, zi x1] σ out := by
  refine cj_go (ls := [(0, zr x0), (1, zi x1)]) (by decide) (Nat.le_of_ble_eq_true rfl) rfl (zgen h (fun r hk => ?_))
  unfold f_J6_get
  refine zst_ (gj_iload_n 1 (pc := 0) dJ6_get_0 rfl) ?_
  refine zst_ (gj_aload_n 0 (pc := 1) dJ6_get_1 rfl) ?_
  refine gb_get (pc := 2) fl2202 dJ6_get_2 q675 (Or.inl rfl) (fun v1 => ?_)
  refine gb_callI (pc := 5) (as := [zi x1, zi v1]) (rest := []) (zCl.of (zLk_S (M := MJ6_get) plJ21_checkIndex.1 rfl dJ6_get_5 q1270 q1271 q134 q1272) plJ21_checkIndex (Nat.le_of_ble_eq_true rfl) (fun h => c_J21_checkIndex h)) (fun v2 σ3 => ?_)
  refine zst_ (gj_pop (pc := 8) dJ6_get_8 rfl) ?_
  refine zst_ (gj_aload_n 0 (pc := 9) dJ6_get_9 rfl) ?_
  refine zst_ (gj_iload_n 1 (pc := 10) dJ6_get_10 rfl) ?_
  refine gb_gd (fun hb => ?_)
  refine gb_callA (pc := 11) (as := [zr x0, zi x1]) (rest := []) (zCl.of (zLk_V (M := MJ6_get) (ci := 22) (r := (RJ6, TJ6, 3)) plJ6_elementData.1 rfl rfl (zisE hb).1 (zisE hb).2 dJ6_get_11 q1274 q1275 q1276 q1277) plJ6_elementData (Nat.le_of_ble_eq_true rfl) (fun h => c_J6_elementData h)) (fun v4 σ5 => ?_)
  intro h
  cases h
  have hk : (0, zr v4, σ5) = out := hk
  subst hk
  exact gj_aret (pc := 14) dJ6_get_14 rfl (Or.inl ⟨_, rfl⟩)
theorem q1154 : (Jvm.Cond.fieldLink "LassoFinder$Statement" (9 : Nat) "LassoFinder$Statement" "kind" "LLassoFinder$Kind;") ∈ lw_all := lw_g (lw_at lw_m5 94 rfl) rfl
theorem q1157 : (Jvm.Cond.fieldLink "LassoFinder$Statement" (23 : Nat) "LassoFinder$Statement" "next" "LLassoFinder$Statement;") ∈ lw_all := lw_g (lw_at lw_m5 97 rfl) rfl
theorem q1159 : (Jvm.Cond.fieldLink "LassoFinder$Statement" (19 : Nat) "LassoFinder$Statement" "up" "LLassoFinder$Statement;") ∈ lw_all := lw_g (lw_at lw_m5 99 rfl) rfl
theorem q1160 : (Jvm.Cond.fieldLink "LassoFinder$Statement" (26 : Nat) "LassoFinder$Statement" "inner" "LLassoFinder$Statement;") ∈ lw_all := lw_g (lw_at lw_m5 100 rfl) rfl
theorem q1162 : (Jvm.Cond.fieldLink "LassoFinder$Statement" (29 : Nat) "LassoFinder$Statement" "beside" "LLassoFinder$Statement;") ∈ lw_all := lw_g (lw_at lw_m5 102 rfl) rfl
theorem q1164 : (Jvm.Cond.fieldLink "LassoFinder$Statement" (32 : Nat) "LassoFinder$Statement" "target" "LLassoFinder$Statement;") ∈ lw_all := lw_g (lw_at lw_m5 104 rfl) rfl
theorem q1166 : (Jvm.Cond.fieldLink "LassoFinder$Statement" (15 : Nat) "LassoFinder$Statement" "place" "I") ∈ lw_all := lw_g (lw_at lw_m5 106 rfl) rfl
theorem q1168 : (Jvm.Cond.fieldLink "LassoFinder$Statement" (39 : Nat) "LassoFinder$Statement" "name" "I") ∈ lw_all := lw_g (lw_at lw_m5 108 rfl) rfl
theorem q1171 : (Jvm.Cond.fieldLink "LassoFinder$Statement" (42 : Nat) "LassoFinder$Statement" "other" "I") ∈ lw_all := lw_g (lw_at lw_m5 111 rfl) rfl
theorem q1174 : (Jvm.Cond.fieldLink "LassoFinder$Statement" (45 : Nat) "LassoFinder$Statement" "number" "I") ∈ lw_all := lw_g (lw_at lw_m5 114 rfl) rfl
theorem q1176 : (Jvm.Cond.fieldLink "LassoFinder$Statement" (48 : Nat) "LassoFinder$Statement" "point" "I") ∈ lw_all := lw_g (lw_at lw_m5 116 rfl) rfl
theorem q1179 : (Jvm.Cond.fieldLink "LassoFinder$Statement" (35 : Nat) "LassoFinder$Statement" "what" "LLassoFinder$Expression;") ∈ lw_all := lw_g (lw_at lw_m5 119 rfl) rfl
theorem q1281 : (Jvm.Cond.code ({ cls := "LassoFinder$Statement", name := "begin", desc := "(LLassoFinder$Kind;ILLassoFinder$Statement;)V" } : Jvm.MethodName) prog_19_method_2_code (4 : Nat) (Option.none : Option Jvm.ClassFile.FieldType)) ∈ lw_all := lw_g (lw_at lw_m5 221 rfl) rfl
theorem fl1100 : zfl 1100 2 "LassoFinder$Statement" "kind" "LLassoFinder$Kind;" false := ⟨rfl, rfl, rfl⟩
theorem fr1100 {g : zG} {v : Int} : zok g (2, v) → zokt g (zft 1100) v := fun h => h
theorem fl1101 : zfl 1101 2 "LassoFinder$Statement" "next" "LLassoFinder$Statement;" false := ⟨rfl, rfl, rfl⟩
theorem fr1101 {g : zG} {v : Int} : zok g (2, v) → zokt g (zft 1101) v := fun h => h
theorem fl1102 : zfl 1102 2 "LassoFinder$Statement" "up" "LLassoFinder$Statement;" false := ⟨rfl, rfl, rfl⟩
theorem fr1102 {g : zG} {v : Int} : zok g (2, v) → zokt g (zft 1102) v := fun h => h
theorem fl1103 : zfl 1103 2 "LassoFinder$Statement" "inner" "LLassoFinder$Statement;" false := ⟨rfl, rfl, rfl⟩
theorem fr1103 {g : zG} {v : Int} : zok g (2, v) → zokt g (zft 1103) v := fun h => h
theorem fl1104 : zfl 1104 2 "LassoFinder$Statement" "beside" "LLassoFinder$Statement;" false := ⟨rfl, rfl, rfl⟩
theorem fr1104 {g : zG} {v : Int} : zok g (2, v) → zokt g (zft 1104) v := fun h => h
theorem fl1105 : zfl 1105 2 "LassoFinder$Statement" "target" "LLassoFinder$Statement;" false := ⟨rfl, rfl, rfl⟩
theorem fr1105 {g : zG} {v : Int} : zok g (2, v) → zokt g (zft 1105) v := fun h => h
theorem fl1106 : zfl 1106 0 "LassoFinder$Statement" "place" "I" false := ⟨rfl, rfl, rfl⟩
theorem fr1106 {g : zG} {v : Int} : zok g (0, v) → zokt g (zft 1106) v := fun h => h
theorem fl1107 : zfl 1107 0 "LassoFinder$Statement" "name" "I" false := ⟨rfl, rfl, rfl⟩
theorem fr1107 {g : zG} {v : Int} : zok g (0, v) → zokt g (zft 1107) v := fun h => h
theorem fl1108 : zfl 1108 0 "LassoFinder$Statement" "other" "I" false := ⟨rfl, rfl, rfl⟩
theorem fr1108 {g : zG} {v : Int} : zok g (0, v) → zokt g (zft 1108) v := fun h => h
theorem fl1109 : zfl 1109 0 "LassoFinder$Statement" "number" "I" false := ⟨rfl, rfl, rfl⟩
theorem fr1109 {g : zG} {v : Int} : zok g (0, v) → zokt g (zft 1109) v := fun h => h
theorem fl1110 : zfl 1110 0 "LassoFinder$Statement" "point" "I" false := ⟨rfl, rfl, rfl⟩
theorem fr1110 {g : zG} {v : Int} : zok g (0, v) → zokt g (zft 1110) v := fun h => h
theorem fl1111 : zfl 1111 2 "LassoFinder$Statement" "what" "LLassoFinder$Expression;" false := ⟨rfl, rfl, rfl⟩
theorem fr1111 {g : zG} {v : Int} : zok g (2, v) → zokt g (zft 1111) v := fun h => h
abbrev cX11_begin : ByteArray := prog_19_method_2_code
def yX11_begin : MethodName := ⟨RX11, "begin", "(LLassoFinder$Kind;ILLassoFinder$Statement;)V"⟩
theorem dX11_begin_0 : decode cX11_begin 0 = .ok (.aload_n 0, 1) := by decide +kernel
theorem dX11_begin_1 : decode cX11_begin 1 = .ok (.aload_n 1, 1) := by decide +kernel
theorem dX11_begin_2 : decode cX11_begin 2 = .ok (.putfield 9, 3) := by decide +kernel
theorem dX11_begin_5 : decode cX11_begin 5 = .ok (.aload_n 0, 1) := by decide +kernel
theorem dX11_begin_6 : decode cX11_begin 6 = .ok (.iload_n 2, 1) := by decide +kernel
theorem dX11_begin_7 : decode cX11_begin 7 = .ok (.putfield 15, 3) := by decide +kernel
theorem dX11_begin_10 : decode cX11_begin 10 = .ok (.aload_n 0, 1) := by decide +kernel
theorem dX11_begin_11 : decode cX11_begin 11 = .ok (.aload_n 3, 1) := by decide +kernel
theorem dX11_begin_12 : decode cX11_begin 12 = .ok (.putfield 19, 3) := by decide +kernel
theorem dX11_begin_15 : decode cX11_begin 15 = .ok (.aload_n 0, 1) := by decide +kernel
theorem dX11_begin_16 : decode cX11_begin 16 = .ok (.aconst_null, 1) := by decide +kernel
theorem dX11_begin_17 : decode cX11_begin 17 = .ok (.putfield 23, 3) := by decide +kernel
theorem dX11_begin_20 : decode cX11_begin 20 = .ok (.aload_n 0, 1) := by decide +kernel
theorem dX11_begin_21 : decode cX11_begin 21 = .ok (.aconst_null, 1) := by decide +kernel
theorem dX11_begin_22 : decode cX11_begin 22 = .ok (.putfield 26, 3) := by decide +kernel
theorem dX11_begin_25 : decode cX11_begin 25 = .ok (.aload_n 0, 1) := by decide +kernel
theorem dX11_begin_26 : decode cX11_begin 26 = .ok (.aconst_null, 1) := by decide +kernel
theorem dX11_begin_27 : decode cX11_begin 27 = .ok (.putfield 29, 3) := by decide +kernel
theorem dX11_begin_30 : decode cX11_begin 30 = .ok (.aload_n 0, 1) := by decide +kernel
theorem dX11_begin_31 : decode cX11_begin 31 = .ok (.aconst_null, 1) := by decide +kernel
theorem dX11_begin_32 : decode cX11_begin 32 = .ok (.putfield 32, 3) := by decide +kernel
theorem dX11_begin_35 : decode cX11_begin 35 = .ok (.aload_n 0, 1) := by decide +kernel
theorem dX11_begin_36 : decode cX11_begin 36 = .ok (.aconst_null, 1) := by decide +kernel
theorem dX11_begin_37 : decode cX11_begin 37 = .ok (.putfield 35, 3) := by decide +kernel
theorem dX11_begin_40 : decode cX11_begin 40 = .ok (.aload_n 0, 1) := by decide +kernel
theorem dX11_begin_41 : decode cX11_begin 41 = .ok (.iconst (-1), 1) := by decide +kernel
theorem dX11_begin_42 : decode cX11_begin 42 = .ok (.putfield 39, 3) := by decide +kernel
theorem dX11_begin_45 : decode cX11_begin 45 = .ok (.aload_n 0, 1) := by decide +kernel
theorem dX11_begin_46 : decode cX11_begin 46 = .ok (.iconst (-1), 1) := by decide +kernel
theorem dX11_begin_47 : decode cX11_begin 47 = .ok (.putfield 42, 3) := by decide +kernel
theorem dX11_begin_50 : decode cX11_begin 50 = .ok (.aload_n 0, 1) := by decide +kernel
theorem dX11_begin_51 : decode cX11_begin 51 = .ok (.iconst (-1), 1) := by decide +kernel
theorem dX11_begin_52 : decode cX11_begin 52 = .ok (.putfield 45, 3) := by decide +kernel
theorem dX11_begin_55 : decode cX11_begin 55 = .ok (.aload_n 0, 1) := by decide +kernel
theorem dX11_begin_56 : decode cX11_begin 56 = .ok (.iconst (-1), 1) := by decide +kernel
theorem dX11_begin_57 : decode cX11_begin 57 = .ok (.putfield 48, 3) := by decide +kernel
theorem dX11_begin_60 : decode cX11_begin 60 = .ok (.return_, 1) := by decide +kernel
abbrev MX11_begin : zT := (yX11_begin, cX11_begin, 4, (Option.none : Option Jvm.ClassFile.FieldType), [])
theorem plX11_begin : zplain MX11_begin 3 ∧ (zcodeW MX11_begin ∈ lw_all ∧ Cond.initialized MX11_begin.1.cls ∈ lw_all) := ⟨⟨by decide +kernel, by decide +kernel⟩, q1281, q133⟩
noncomputable def f_X11_begin (x0 x1 x2 x3 : Int) (σ : zM) : Option zO :=
  (zpf σ 1100 x0 x1).bind fun σ1 =>
  (zpf σ1 1106 x0 x2).bind fun σ2 =>
  (zpf σ2 1102 x0 x3).bind fun σ3 =>
  (zpf σ3 1101 x0 (-1)).bind fun σ4 =>
  (zpf σ4 1103 x0 (-1)).bind fun σ5 =>
  (zpf σ5 1104 x0 (-1)).bind fun σ6 =>
  (zpf σ6 1105 x0 (-1)).bind fun σ7 =>
  (zpf σ7 1111 x0 (-1)).bind fun σ8 =>
  (zpf σ8 1107 x0 (-1)).bind fun σ9 =>
  (zpf σ9 1108 x0 (-1)).bind fun σ10 =>
  (zpf σ10 1109 x0 (-1)).bind fun σ11 =>
  (zpf σ11 1110 x0 (-1)).bind fun σ12 =>
  some (0, ((3, 0) : zV), σ12)
theorem c_X11_begin {g : zG} {lv : Nat} {x0 x1 x2 x3 : Int} {σ : zM} {out : zO} (h : f_X11_begin x0 x1 x2 x3 σ = some out) : Cj g (lv) MX11_begin [zr x0, zr x1, zi x2, zr x3] σ out := by
  refine cj_go (ls := [(0, zr x0), (1, zr x1), (2, zi x2), (3, zr x3)]) (by decide) (Nat.le_of_ble_eq_true rfl) rfl (zgen h (fun r hk => ?_))
  unfold f_X11_begin
  refine zst_ (gj_aload_n 0 (pc := 0) dX11_begin_0 rfl) ?_
  refine zst_ (gj_aload_n 1 (pc := 1) dX11_begin_1 rfl) ?_
  refine gb_put (pc := 2) fl1100 fr1100 dX11_begin_2 q1154 (Or.inl rfl) (fun σ1 => ?_)
  refine zst_ (gj_aload_n 0 (pc := 5) dX11_begin_5 rfl) ?_
  refine zst_ (gj_iload_n 2 (pc := 6) dX11_begin_6 rfl) ?_
  refine gb_put (pc := 7) fl1106 fr1106 dX11_begin_7 q1166 (Or.inl rfl) (fun σ2 => ?_)
  refine zst_ (gj_aload_n 0 (pc := 10) dX11_begin_10 rfl) ?_
  refine zst_ (gj_aload_n 3 (pc := 11) dX11_begin_11 rfl) ?_
  refine gb_put (pc := 12) fl1102 fr1102 dX11_begin_12 q1159 (Or.inl rfl) (fun σ3 => ?_)
  refine zst_ (gj_aload_n 0 (pc := 15) dX11_begin_15 rfl) ?_
  refine zst_ (gj_null (pc := 16) dX11_begin_16) ?_
  refine gb_put (pc := 17) fl1101 fr1101 dX11_begin_17 q1157 (Or.inl rfl) (fun σ4 => ?_)
  refine zst_ (gj_aload_n 0 (pc := 20) dX11_begin_20 rfl) ?_
  refine zst_ (gj_null (pc := 21) dX11_begin_21) ?_
  refine gb_put (pc := 22) fl1103 fr1103 dX11_begin_22 q1160 (Or.inl rfl) (fun σ5 => ?_)
  refine zst_ (gj_aload_n 0 (pc := 25) dX11_begin_25 rfl) ?_
  refine zst_ (gj_null (pc := 26) dX11_begin_26) ?_
  refine gb_put (pc := 27) fl1104 fr1104 dX11_begin_27 q1162 (Or.inl rfl) (fun σ6 => ?_)
  refine zst_ (gj_aload_n 0 (pc := 30) dX11_begin_30 rfl) ?_
  refine zst_ (gj_null (pc := 31) dX11_begin_31) ?_
  refine gb_put (pc := 32) fl1105 fr1105 dX11_begin_32 q1164 (Or.inl rfl) (fun σ7 => ?_)
  refine zst_ (gj_aload_n 0 (pc := 35) dX11_begin_35 rfl) ?_
  refine zst_ (gj_null (pc := 36) dX11_begin_36) ?_
  refine gb_put (pc := 37) fl1111 fr1111 dX11_begin_37 q1179 (Or.inl rfl) (fun σ8 => ?_)
  refine zst_ (gj_aload_n 0 (pc := 40) dX11_begin_40 rfl) ?_
  refine zst_ (gj_iconst (pc := 41) dX11_begin_41 (by decide)) ?_
  refine gb_put (pc := 42) fl1107 fr1107 dX11_begin_42 q1168 (Or.inl rfl) (fun σ9 => ?_)
  refine zst_ (gj_aload_n 0 (pc := 45) dX11_begin_45 rfl) ?_
  refine zst_ (gj_iconst (pc := 46) dX11_begin_46 (by decide)) ?_
  refine gb_put (pc := 47) fl1108 fr1108 dX11_begin_47 q1171 (Or.inl rfl) (fun σ10 => ?_)
  refine zst_ (gj_aload_n 0 (pc := 50) dX11_begin_50 rfl) ?_
  refine zst_ (gj_iconst (pc := 51) dX11_begin_51 (by decide)) ?_
  refine gb_put (pc := 52) fl1109 fr1109 dX11_begin_52 q1174 (Or.inl rfl) (fun σ11 => ?_)
  refine zst_ (gj_aload_n 0 (pc := 55) dX11_begin_55 rfl) ?_
  refine zst_ (gj_iconst (pc := 56) dX11_begin_56 (by decide)) ?_
  refine gb_put (pc := 57) fl1110 fr1110 dX11_begin_57 q1176 (Or.inl rfl) (fun σ12 => ?_)
  intro h
  cases h
  have hk : (0, ((3, 0) : zV), σ12) = out := hk
  subst hk
  exact gj_vret (pc := 60) dX11_begin_60 rfl

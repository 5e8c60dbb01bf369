set_option maxRecDepth 100000
noncomputable def t_X9_can_34 (t0 : Int) (V : zW) : Option (Int × zW) :=
  zgd (z01 t0) <|
  some (t0, V)
theorem e_X9_can_34 {σ : zM} {m : Nat} (h : tOK m σ) {t0 : Int} {V : zW} : tR (tfi σ m) (f_X9_can_34 t0 (tw σ m V)) (t_X9_can_34 t0 V) := by
  unfold f_X9_can_34 t_X9_can_34
  refine te_gd ?_
  exact te_some rfl
noncomputable def t_X9_can (x1 : Int) (V : zW) : Option (Int × zW) :=
  (tga V 914 x1).bind fun v2 =>
  if v2 ≠ 1 then
    (tga V 914 x1).bind fun v4 =>
    if v4 ≠ 3 then
      (tga V 914 x1).bind fun v6 =>
      if v6 = 2 then
        (tga V 921 x1).bind fun v9 =>
        (tga V 912 v9).bind fun v10 =>
        if v10 ≤ 0 then
          t_X9_can_140 x1 0 0 V
        else
          (tga V 921 x1).bind fun v13 =>
          (tga V 956 v13).bind fun v14 =>
          (tga V 921 x1).bind fun v17 =>
          (tga V 912 v17).bind fun v18 =>
          if v18 ≤ v14 then
            t_X9_can_135 0 V
          else
            t_X9_can_135 1 V
      else
        (tga V 914 x1).bind fun v20 =>
        if v20 = 5 then
          t_X9_can_90 0 V
        else
          t_X9_can_90 1 V
    else
      (tga V 921 x1).bind fun v23 =>
      (tga V 956 v23).bind fun v24 =>
      if v24 ≤ 0 then
        t_X9_can_64 0 V
      else
        t_X9_can_64 1 V
  else
    (tga V 923 x1).bind fun v26 =>
    (tga V 924 x1).bind fun v28 =>
    tci (t_X9_worth v26 v28 V) fun v29 V30 =>
    if v29 = 0 then
      t_X9_can_34 0 V30
    else
      t_X9_can_34 1 V30
theorem e_X9_can {σ : zM} {m : Nat} (h : tOK m σ) {x1 : Int} {V : zW} : tR (tfi σ m) (f_X9_can (m : Int) x1 (tw σ m V)) (t_X9_can x1 V) := by
  unfold f_X9_can t_X9_can
  refine te_gr h (f := 914) rfl ?_
  refine te_ga h rfl (fun v2 => ?_)
  refine te_if ?_ ?_
  · refine te_gr h (f := 914) rfl ?_
    refine te_ga h rfl (fun v4 => ?_)
    refine te_if ?_ ?_
    · refine te_gr h (f := 914) rfl ?_
      refine te_ga h rfl (fun v6 => ?_)
      refine te_if ?_ ?_
      · refine te_gr h (f := 912) rfl ?_
        refine te_gr h (f := 921) rfl ?_
        refine te_ga h rfl (fun v9 => ?_)
        refine te_ga h rfl (fun v10 => ?_)
        refine te_if ?_ ?_
        · exact (e_X9_can_140 h)
        · refine te_gr h (f := 956) rfl ?_
          refine te_gr h (f := 921) rfl ?_
          refine te_ga h rfl (fun v13 => ?_)
          refine te_ga h rfl (fun v14 => ?_)
          refine te_gr h (f := 912) rfl ?_
          refine te_gr h (f := 921) rfl ?_
          refine te_ga h rfl (fun v17 => ?_)
          refine te_ga h rfl (fun v18 => ?_)
          refine te_if ?_ ?_
          · exact (e_X9_can_135 h)
          · exact (e_X9_can_135 h)
      · refine te_gr h (f := 914) rfl ?_
        refine te_ga h rfl (fun v20 => ?_)
        refine te_if ?_ ?_
        · exact (e_X9_can_90 h)
        · exact (e_X9_can_90 h)
    · refine te_gr h (f := 956) rfl ?_
      refine te_gr h (f := 921) rfl ?_
      refine te_ga h rfl (fun v23 => ?_)
      refine te_ga h rfl (fun v24 => ?_)
      refine te_if ?_ ?_
      · exact (e_X9_can_64 h)
      · exact (e_X9_can_64 h)
  · refine te_gr h (f := 923) rfl ?_
    refine te_ga h rfl (fun v26 => ?_)
    refine te_gr h (f := 924) rfl ?_
    refine te_ga h rfl (fun v28 => ?_)
    refine te_is h ?_
    refine te_ci (e_X9_worth h) (fun v29 V30 => ?_)
    refine te_if ?_ ?_
    · exact (e_X9_can_34 h)
    · exact (e_X9_can_34 h)
noncomputable def t_X9_doable_163 (t0 : Int) (V : zW) : Option (Int × zW) :=
  some (t0, V)
theorem e_X9_doable_163 {σ : zM} {m : Nat} (h : tOK m σ) {t0 : Int} {V : zW} : tR (tfj σ m) (f_X9_doable_163 t0 (tw σ m V)) (t_X9_doable_163 t0 V) := by
  unfold f_X9_doable_163 t_X9_doable_163
  exact te_some rfl
noncomputable def t_X9_doable_162 (x1 : Int) (V : zW) : Option (Int × zW) :=
  t_X9_doable_163 x1 V
theorem e_X9_doable_162 {σ : zM} {m : Nat} (h : tOK m σ) {x1 : Int} {V : zW} : tR (tfj σ m) (f_X9_doable_162 x1 (tw σ m V)) (t_X9_doable_162 x1 V) := by
  unfold f_X9_doable_162 t_X9_doable_162
  exact (e_X9_doable_163 h)
noncomputable def t_X9_doable_127 (x1 : Int) (V : zW) : Option (Int × zW) :=
  zlet (V.1 959) fun v1 =>
  if v1 < 0 then
    t_X9_doable_162 x1 V
  else
    zlet (V.1 959) fun v2 =>
    tcj (t_X9_maskOf v2 V) fun v3 V4 =>
    if (zlcmp (jand x1 v3) 0) = 0 then
      t_X9_doable_162 x1 V4
    else
      zlet (V4.1 959) fun v5 =>
      tcj (t_X9_maskOf v5 V4) fun v6 V7 =>
      t_X9_doable_163 (jand x1 v6) V7
theorem e_X9_doable_127 {σ : zM} {m : Nat} (h : tOK m σ) {x1 : Int} {V : zW} : tR (tfj σ m) (f_X9_doable_127 (m : Int) x1 (tw σ m V)) (t_X9_doable_127 x1 V) := by
  unfold f_X9_doable_127 t_X9_doable_127
  refine te_gs h rfl (fun v1 => ?_)
  refine te_if ?_ ?_
  · exact (e_X9_doable_162 h)
  · refine te_gs h rfl (fun v2 => ?_)
    refine te_is h ?_
    refine te_cj (e_X9_maskOf h) (fun v3 V4 => ?_)
    refine te_if ?_ ?_
    · exact (e_X9_doable_162 h)
    · refine te_gs h rfl (fun v5 => ?_)
      refine te_is h ?_
      refine te_cj (e_X9_maskOf h) (fun v6 V7 => ?_)
      exact (e_X9_doable_163 h)
noncomputable def t_X9_doable_119 (x3 t0 t1 : Int) (V : zW) : Option ((Int × Int × zW) ⊕ (Int × zW)) :=
  zlet ((jor t1 t0)) fun y1 =>
  zlet (zadd x3 1) fun y2 =>
  some (.inl (y1, y2, V))
theorem e_X9_doable_119 {σ : zM} {m : Nat} (h : tOK m σ) {x3 t0 t1 : Int} {V : zW} : tR (Sum.map (fun s => (s.1, s.2.1, tw σ m s.2.2)) (tfj σ m)) (f_X9_doable_119 (m : Int) x3 t0 t1 (tw σ m V)) (t_X9_doable_119 x3 t0 t1 V) := by
  unfold f_X9_doable_119 t_X9_doable_119
  refine te_let (fun y1 => ?_)
  refine te_let (fun y2 => ?_)
  exact te_some rfl
noncomputable def t_X9_doable_104 (x1 x3 x4 x6 : Int) (V : zW) : Option ((Int × Int × zW) ⊕ (Int × zW)) :=
  if (zlcmp x4 0) ≠ 0 then
    t_X9_doable_119 x3 x4 x1 V
  else
    t_X9_doable_119 x3 x6 x1 V
theorem e_X9_doable_104 {σ : zM} {m : Nat} (h : tOK m σ) {x1 x3 x4 x6 : Int} {V : zW} : tR (Sum.map (fun s => (s.1, s.2.1, tw σ m s.2.2)) (tfj σ m)) (f_X9_doable_104 (m : Int) x1 x3 x4 x6 (tw σ m V)) (t_X9_doable_104 x1 x3 x4 x6 V) := by
  unfold f_X9_doable_104 t_X9_doable_104
  refine te_if ?_ ?_
  · exact (e_X9_doable_119 h)
  · exact (e_X9_doable_119 h)
noncomputable def t_X9_doable_98 (x1 x3 x4 x6 x8 : Int) (V : zW) : Option ((Int × Int × Int × zW) ⊕ ((Int × Int × zW) ⊕ (Int × zW))) :=
  zlet (zadd x8 1) fun y1 =>
  some (.inl (x4, x6, y1, V))
theorem e_X9_doable_98 {σ : zM} {m : Nat} (h : tOK m σ) {x1 x3 x4 x6 x8 : Int} {V : zW} : tR (Sum.map (fun s => (s.1, s.2.1, s.2.2.1, tw σ m s.2.2.2)) (Sum.map (fun s => (s.1, s.2.1, tw σ m s.2.2)) (tfj σ m))) (f_X9_doable_98 (m : Int) x1 x3 x4 x6 x8 (tw σ m V)) (t_X9_doable_98 x1 x3 x4 x6 x8 V) := by
  unfold f_X9_doable_98 t_X9_doable_98
  refine te_let (fun y1 => ?_)
  exact te_some rfl
noncomputable def t_X9_doable_21_b (x1 x3 x4 x6 x8 : Int) (V : zW) : Option ((Int × Int × Int × zW) ⊕ ((Int × Int × zW) ⊕ (Int × zW))) :=
  zlet (V.1 927) fun v1 =>
  if v1 ≤ x8 then
    (t_X9_doable_104 x1 x3 x4 x6 V).map (fun r => (.inr r))
  else
    tcj (t_X9_maskOf x3 V) fun v2 V3 =>
    if (zlcmp (jand (jshr v2 x8) 1) 0) ≠ 0 then
      (tga V3 928 x8).bind fun v5 =>
      (tga V3 914 v5).bind fun v7 =>
      if v7 ≠ 5 then
        tci (t_X9_can v5 V3) fun v8 V9 =>
        if v8 = 0 then
          t_X9_doable_98 x1 x3 x4 x6 x8 V9
        else
          zlet ((jor x4 (jshl 1 x8))) fun y10 =>
          t_X9_doable_98 x1 x3 y10 x6 x8 V9
      else
        zlet ((jor x6 (jshl 1 x8))) fun y11 =>
        t_X9_doable_98 x1 x3 x4 y11 x8 V3
    else
      t_X9_doable_98 x1 x3 x4 x6 x8 V3
theorem e_X9_doable_21_b {σ : zM} {m : Nat} (h : tOK m σ) {x1 x3 x4 x6 x8 : Int} {V : zW} : tR (Sum.map (fun s => (s.1, s.2.1, s.2.2.1, tw σ m s.2.2.2)) (Sum.map (fun s => (s.1, s.2.1, tw σ m s.2.2)) (tfj σ m))) (f_X9_doable_21_b (m : Int) x1 x3 x4 x6 x8 (tw σ m V)) (t_X9_doable_21_b x1 x3 x4 x6 x8 V) := by
  unfold f_X9_doable_21_b t_X9_doable_21_b
  refine te_gs h rfl (fun v1 => ?_)
  refine te_if ?_ ?_
  · exact te_map (e_X9_doable_104 h) (fun r => rfl)
  · refine te_is h ?_
    refine te_cj (e_X9_maskOf h) (fun v2 V3 => ?_)
    refine te_if ?_ ?_
    · refine te_gr h (f := 928) rfl ?_
      refine te_ga h rfl (fun v5 => ?_)
      refine te_gr h (f := 914) rfl ?_
      refine te_ga h rfl (fun v7 => ?_)
      refine te_if ?_ ?_
      · refine te_is h ?_
        refine te_ci (e_X9_can h) (fun v8 V9 => ?_)
        refine te_if ?_ ?_
        · exact (e_X9_doable_98 h)
        · refine te_let (fun y10 => ?_)
          exact (e_X9_doable_98 h)
      · refine te_let (fun y11 => ?_)
        exact (e_X9_doable_98 h)
    · exact (e_X9_doable_98 h)
noncomputable def t_X9_doable_21 (x1 x3 x4 x6 x8 : Int) (V : zW) : Option ((Int × Int × zW) ⊕ (Int × zW)) :=
  zloop (fun s : Int × Int × Int × zW => t_X9_doable_21_b x1 x3 s.1 s.2.1 s.2.2.1 s.2.2.2) (x4, x6, x8, V)
theorem e_X9_doable_21 {σ : zM} {m : Nat} (h : tOK m σ) {x1 x3 x4 x6 x8 : Int} {V : zW} : tR (Sum.map (fun s => (s.1, s.2.1, tw σ m s.2.2)) (tfj σ m)) (f_X9_doable_21 (m : Int) x1 x3 x4 x6 x8 (tw σ m V)) (t_X9_doable_21 x1 x3 x4 x6 x8 V) := by
  unfold f_X9_doable_21 t_X9_doable_21
  refine te_loop (φ := (fun s => (s.1, s.2.1, s.2.2.1, tw σ m s.2.2.2))) (s := (x4, x6, x8, V)) (fun s => ?_)
  exact e_X9_doable_21_b h
noncomputable def t_X9_doable_4_b (x1 x3 : Int) (V : zW) : Option ((Int × Int × zW) ⊕ (Int × zW)) :=
  zlet (V.1 930) fun v1 =>
  if v1 ≤ x3 then
    (t_X9_doable_127 x1 V).map (fun r => (.inr r))
  else
    t_X9_doable_21 x1 x3 0 0 0 V
theorem e_X9_doable_4_b {σ : zM} {m : Nat} (h : tOK m σ) {x1 x3 : Int} {V : zW} : tR (Sum.map (fun s => (s.1, s.2.1, tw σ m s.2.2)) (tfj σ m)) (f_X9_doable_4_b (m : Int) x1 x3 (tw σ m V)) (t_X9_doable_4_b x1 x3 V) := by
  unfold f_X9_doable_4_b t_X9_doable_4_b
  refine te_gs h rfl (fun v1 => ?_)
  refine te_if ?_ ?_
  · exact te_map (e_X9_doable_127 h) (fun r => rfl)
  · exact (e_X9_doable_21 h)
noncomputable def t_X9_doable_4 (x1 x3 : Int) (V : zW) : Option (Int × zW) :=
  zloop (fun s : Int × Int × zW => t_X9_doable_4_b s.1 s.2.1 s.2.2) (x1, x3, V)
theorem e_X9_doable_4 {σ : zM} {m : Nat} (h : tOK m σ) {x1 x3 : Int} {V : zW} : tR (tfj σ m) (f_X9_doable_4 (m : Int) x1 x3 (tw σ m V)) (t_X9_doable_4 x1 x3 V) := by
  unfold f_X9_doable_4 t_X9_doable_4
  refine te_loop (φ := (fun s => (s.1, s.2.1, tw σ m s.2.2))) (s := (x1, x3, V)) (fun s => ?_)
  exact e_X9_doable_4_b h
noncomputable def t_X9_doable (V : zW) : Option (Int × zW) :=
  t_X9_doable_4 0 0 V
theorem e_X9_doable {σ : zM} {m : Nat} (h : tOK m σ) {V : zW} : tR (tfj σ m) (f_X9_doable (m : Int) (tw σ m V)) (t_X9_doable  V) := by
  unfold f_X9_doable t_X9_doable
  exact (e_X9_doable_4 h)
noncomputable def t_X9_goesOn_71 (t0 : Int) (V : zW) : Option (Int × zW) :=
  zgd (z01 t0) <|
  some (t0, V)
theorem e_X9_goesOn_71 {σ : zM} {m : Nat} (h : tOK m σ) {t0 : Int} {V : zW} : tR (tfi σ m) (f_X9_goesOn_71 t0 (tw σ m V)) (t_X9_goesOn_71 t0 V) := by
  unfold f_X9_goesOn_71 t_X9_goesOn_71
  refine te_gd ?_
  exact te_some rfl
noncomputable def t_X9_goesOn_70 (V : zW) : Option (Int × zW) :=
  t_X9_goesOn_71 0 V
theorem e_X9_goesOn_70 {σ : zM} {m : Nat} (h : tOK m σ) {V : zW} : tR (tfi σ m) (f_X9_goesOn_70  (tw σ m V)) (t_X9_goesOn_70  V) := by
  unfold f_X9_goesOn_70 t_X9_goesOn_70
  exact (e_X9_goesOn_71 h)
noncomputable def t_X9_goesOn (x1 x2 : Int) (V : zW) : Option (Int × zW) :=
  (tga V 926 x2).bind fun v3 =>
  (tpa V 958 x1 v3).bind fun V4 =>
  (tga V4 919 x2).bind fun v6 =>
  if v6 < 0 then
    t_X9_goesOn_70 V4
  else
    (tga V4 958 x1).bind fun v8 =>
    (tga V4 931 x1).bind fun v10 =>
    if v10 ≤ v8 then
      t_X9_goesOn_70 V4
    else
      (tga V4 958 x1).bind fun v14 =>
      (tga V4 934 (zadd (zmul 31 x1) v14)).bind fun v15 =>
      (tga V4 919 v15).bind fun v16 =>
      (tga V4 919 x2).bind fun v18 =>
      if v16 ≠ v18 then
        t_X9_goesOn_70 V4
      else
        t_X9_goesOn_71 1 V4
theorem e_X9_goesOn {σ : zM} {m : Nat} (h : tOK m σ) {x1 x2 : Int} {V : zW} : tR (tfi σ m) (f_X9_goesOn (m : Int) x1 x2 (tw σ m V)) (t_X9_goesOn x1 x2 V) := by
  unfold f_X9_goesOn t_X9_goesOn
  refine te_gr h (f := 958) rfl ?_
  refine te_gr h (f := 926) rfl ?_
  refine te_ga h rfl (fun v3 => ?_)
  refine te_pa h rfl (fun V4 => ?_)
  refine te_gr h (f := 919) rfl ?_
  refine te_ga h rfl (fun v6 => ?_)
  refine te_if ?_ ?_
  · exact (e_X9_goesOn_70 h)
  · refine te_gr h (f := 958) rfl ?_
    refine te_ga h rfl (fun v8 => ?_)
    refine te_gr h (f := 931) rfl ?_
    refine te_ga h rfl (fun v10 => ?_)
    refine te_if ?_ ?_
    · exact (e_X9_goesOn_70 h)
    · refine te_gr h (f := 919) rfl ?_
      refine te_gr h (f := 934) rfl ?_
      refine te_gr h (f := 958) rfl ?_
      refine te_ga h rfl (fun v14 => ?_)
      refine te_ga h rfl (fun v15 => ?_)
      refine te_ga h rfl (fun v16 => ?_)
      refine te_gr h (f := 919) rfl ?_
      refine te_ga h rfl (fun v18 => ?_)
      refine te_if ?_ ?_
      · exact (e_X9_goesOn_70 h)
      · exact (e_X9_goesOn_71 h)
noncomputable def t_X9_act_310 (V : zW) : Option zW :=
  some V
theorem e_X9_act_310 {σ : zM} {m : Nat} (h : tOK m σ) {V : zW} : tR (tfv σ m) (f_X9_act_310  (tw σ m V)) (t_X9_act_310  V) := by
  unfold f_X9_act_310 t_X9_act_310
  exact te_some rfl
noncomputable def t_X9_act_307 (t0 : Int) (V : zW) : Option zW :=
  twl (us V 959 t0) fun V1 =>
  t_X9_act_310 V1
theorem e_X9_act_307 {σ : zM} {m : Nat} (h : tOK m σ) {t0 : Int} {V : zW} : tR (tfv σ m) (f_X9_act_307 t0 (m : Int) (tw σ m V)) (t_X9_act_307 t0 V) := by
  unfold f_X9_act_307 t_X9_act_307
  refine te_ps h rfl (fun V1 => ?_)
  exact (e_X9_act_310 h)
noncomputable def t_X9_act_258 (x2 t0 : Int) (V : zW) : Option zW :=
  twl (us V 959 t0) fun V1 =>
  if x2 < 0 then
    t_X9_act_310 V1
  else
    (tga V1 928 x2).bind fun v4 =>
    (tga V1 915 v4).bind fun v5 =>
    (tga V1 928 x2).bind fun v7 =>
    tci (t_X9_goesOn v5 v7 V1) fun v8 V9 =>
    if v8 = 0 then
      zlet (V9.1 959) fun v10 =>
      t_X9_act_307 v10 V9
    else
      t_X9_act_307 v5 V9
theorem e_X9_act_258 {σ : zM} {m : Nat} (h : tOK m σ) {x2 t0 : Int} {V : zW} : tR (tfv σ m) (f_X9_act_258 (m : Int) x2 t0 (m : Int) (tw σ m V)) (t_X9_act_258 x2 t0 V) := by
  unfold f_X9_act_258 t_X9_act_258
  refine te_ps h rfl (fun V1 => ?_)
  refine te_if ?_ ?_
  · exact (e_X9_act_310 h)
  · refine te_gr h (f := 915) rfl ?_
    refine te_gr h (f := 928) rfl ?_
    refine te_ga h rfl (fun v4 => ?_)
    refine te_ga h rfl (fun v5 => ?_)
    refine te_gr h (f := 928) rfl ?_
    refine te_ga h rfl (fun v7 => ?_)
    refine te_is h ?_
    refine te_ci (e_X9_goesOn h) (fun v8 V9 => ?_)
    refine te_if ?_ ?_
    · refine te_gs h rfl (fun v10 => ?_)
      exact (e_X9_act_307 h)
    · exact (e_X9_act_307 h)
noncomputable def t_X9_act_241 (x2 x3 x4 : Int) (V : zW) : Option zW :=
  tci (t_X9_goesOn x4 x3 V) fun v1 V2 =>
  if v1 = 0 then
    t_X9_act_258 x2 (-1) V2
  else
    t_X9_act_258 x2 x4 V2
theorem e_X9_act_241 {σ : zM} {m : Nat} (h : tOK m σ) {x2 x3 x4 : Int} {V : zW} : tR (tfv σ m) (f_X9_act_241 (m : Int) x2 x3 x4 (tw σ m V)) (t_X9_act_241 x2 x3 x4 V) := by
  unfold f_X9_act_241 t_X9_act_241
  refine te_is h ?_
  refine te_ci (e_X9_goesOn h) (fun v1 V2 => ?_)
  refine te_if ?_ ?_
  · exact (e_X9_act_258 h)
  · exact (e_X9_act_258 h)
noncomputable def t_X9_act_230 (x2 x3 x4 x5 : Int) (V : zW) : Option zW :=
  (tga V 956 x5).bind fun v2 =>
  (tpa V 956 x5 (zsub v2 1)).bind fun V3 =>
  t_X9_act_241 x2 x3 x4 V3
theorem e_X9_act_230 {σ : zM} {m : Nat} (h : tOK m σ) {x2 x3 x4 x5 : Int} {V : zW} : tR (tfv σ m) (f_X9_act_230 (m : Int) x2 x3 x4 x5 (tw σ m V)) (t_X9_act_230 x2 x3 x4 x5 V) := by
  unfold f_X9_act_230 t_X9_act_230
  refine te_gr h (f := 956) rfl ?_
  refine te_ga h rfl (fun v2 => ?_)
  refine te_pa h rfl (fun V3 => ?_)
  exact (e_X9_act_241 h)
noncomputable def t_X9_act_192_b (x2 x3 x4 x5 x7 : Int) (V : zW) : Option ((Int × zW) ⊕ zW) :=
  if 3 ≤ x7 then
    (t_X9_act_230 x2 x3 x4 x5 V).map (fun r => (.inr r))
  else
    (tga V 957 (zadd (zmul 3 x5) x7)).bind fun v3 =>
    (tpa V 957 (zsub (zadd (zmul 3 x5) x7) 1) v3).bind fun V4 =>
    zlet (zadd x7 1) fun y5 =>
    some (.inl (y5, V4))
theorem e_X9_act_192_b {σ : zM} {m : Nat} (h : tOK m σ) {x2 x3 x4 x5 x7 : Int} {V : zW} : tR (Sum.map (fun s => (s.1, tw σ m s.2)) (tfv σ m)) (f_X9_act_192_b (m : Int) x2 x3 x4 x5 x7 (tw σ m V)) (t_X9_act_192_b x2 x3 x4 x5 x7 V) := by
  unfold f_X9_act_192_b t_X9_act_192_b
  refine te_if ?_ ?_
  · exact te_map (e_X9_act_230 h) (fun r => rfl)
  · refine te_gr h (f := 957) rfl ?_
    refine te_gr h (f := 957) rfl ?_
    refine te_ga h rfl (fun v3 => ?_)
    refine te_pa h rfl (fun V4 => ?_)
    refine te_let (fun y5 => ?_)
    exact te_some rfl
noncomputable def t_X9_act_192 (x2 x3 x4 x5 x7 : Int) (V : zW) : Option zW :=
  zloop (fun s : Int × zW => t_X9_act_192_b x2 x3 x4 x5 s.1 s.2) (x7, V)
theorem e_X9_act_192 {σ : zM} {m : Nat} (h : tOK m σ) {x2 x3 x4 x5 x7 : Int} {V : zW} : tR (tfv σ m) (f_X9_act_192 (m : Int) x2 x3 x4 x5 x7 (tw σ m V)) (t_X9_act_192 x2 x3 x4 x5 x7 V) := by
  unfold f_X9_act_192 t_X9_act_192
  refine te_loop (φ := (fun s => (s.1, tw σ m s.2))) (s := (x7, V)) (fun s => ?_)
  exact e_X9_act_192_b h
noncomputable def t_X9_act_116 (x2 x3 x4 x5 x6 : Int) (V : zW) : Option zW :=
  (tga V 914 x3).bind fun v2 =>
  if v2 ≠ 2 then
    (tga V 914 x3).bind fun v4 =>
    if v4 ≠ 3 then
      t_X9_act_241 x2 x3 x4 V
    else
      (tga V 922 x3).bind fun v7 =>
      (tga V 957 (zmul 3 x5)).bind fun v9 =>
      (tpa V 955 v7 v9).bind fun V10 =>
      t_X9_act_192 x2 x3 x4 x5 1 V10
  else
    (tga V 956 x5).bind fun v13 =>
    (tpa V 957 (zadd (zmul 3 x5) v13) x6).bind fun V14 =>
    (tga V14 956 x5).bind fun v16 =>
    (tpa V14 956 x5 (zadd v16 1)).bind fun V17 =>
    t_X9_act_241 x2 x3 x4 V17
theorem e_X9_act_116 {σ : zM} {m : Nat} (h : tOK m σ) {x2 x3 x4 x5 x6 : Int} {V : zW} : tR (tfv σ m) (f_X9_act_116 (m : Int) x2 x3 x4 x5 x6 (tw σ m V)) (t_X9_act_116 x2 x3 x4 x5 x6 V) := by
  unfold f_X9_act_116 t_X9_act_116
  refine te_gr h (f := 914) rfl ?_
  refine te_ga h rfl (fun v2 => ?_)
  refine te_if ?_ ?_
  · refine te_gr h (f := 914) rfl ?_
    refine te_ga h rfl (fun v4 => ?_)
    refine te_if ?_ ?_
    · exact (e_X9_act_241 h)
    · refine te_gr h (f := 955) rfl ?_
      refine te_gr h (f := 922) rfl ?_
      refine te_ga h rfl (fun v7 => ?_)
      refine te_gr h (f := 957) rfl ?_
      refine te_ga h rfl (fun v9 => ?_)
      refine te_pa h rfl (fun V10 => ?_)
      exact (e_X9_act_192 h)
  · refine te_gr h (f := 957) rfl ?_
    refine te_gr h (f := 956) rfl ?_
    refine te_ga h rfl (fun v13 => ?_)
    refine te_pa h rfl (fun V14 => ?_)
    refine te_gr h (f := 956) rfl ?_
    refine te_ga h rfl (fun v16 => ?_)
    refine te_pa h rfl (fun V17 => ?_)
    exact (e_X9_act_241 h)
noncomputable def t_X9_act_58 (x2 x3 x4 x5 t0 : Int) (V : zW) : Option zW :=
  (tga V 914 x3).bind fun v2 =>
  if v2 ≠ 0 then
    (tga V 914 x3).bind fun v4 =>
    if v4 ≠ 2 then
      t_X9_act_116 x2 x3 x4 x5 t0 V
    else
      if x2 < 0 then
        t_X9_act_116 x2 x3 x4 x5 t0 V
      else
        (tga V 928 x2).bind fun v8 =>
        (tga V 922 v8).bind fun v9 =>
        (tpa V 955 v9 t0).bind fun V10 =>
        t_X9_act_241 x2 x3 x4 V10
  else
    (tpa V 955 x5 t0).bind fun V12 =>
    t_X9_act_241 x2 x3 x4 V12
theorem e_X9_act_58 {σ : zM} {m : Nat} (h : tOK m σ) {x2 x3 x4 x5 t0 : Int} {V : zW} : tR (tfv σ m) (f_X9_act_58 (m : Int) x2 x3 x4 x5 t0 (tw σ m V)) (t_X9_act_58 x2 x3 x4 x5 t0 V) := by
  unfold f_X9_act_58 t_X9_act_58
  refine te_gr h (f := 914) rfl ?_
  refine te_ga h rfl (fun v2 => ?_)
  refine te_if ?_ ?_
  · refine te_gr h (f := 914) rfl ?_
    refine te_ga h rfl (fun v4 => ?_)
    refine te_if ?_ ?_
    · exact (e_X9_act_116 h)
    · refine te_if ?_ ?_
      · exact (e_X9_act_116 h)
      · refine te_gr h (f := 955) rfl ?_
        refine te_gr h (f := 922) rfl ?_
        refine te_gr h (f := 928) rfl ?_
        refine te_ga h rfl (fun v8 => ?_)
        refine te_ga h rfl (fun v9 => ?_)
        refine te_pa h rfl (fun V10 => ?_)
        exact (e_X9_act_241 h)
  · refine te_gr h (f := 955) rfl ?_
    refine te_pa h rfl (fun V12 => ?_)
    exact (e_X9_act_241 h)
noncomputable def t_X9_act (x1 x2 : Int) (V : zW) : Option zW :=
  (tga V 928 x1).bind fun v2 =>
  (tga V 915 v2).bind fun v4 =>
  (tga V 921 v2).bind fun v6 =>
  (tga V 923 v2).bind fun v8 =>
  (tga V 924 v2).bind fun v10 =>
  if v10 ≤ v8 then
    t_X9_act_58 x2 v2 v4 v6 0 V
  else
    (tga V 923 v2).bind fun v12 =>
    (tga V 924 v2).bind fun v14 =>
    tci (t_X9_worth v12 v14 V) fun v15 V16 =>
    t_X9_act_58 x2 v2 v4 v6 v15 V16
theorem e_X9_act {σ : zM} {m : Nat} (h : tOK m σ) {x1 x2 : Int} {V : zW} : tR (tfv σ m) (f_X9_act (m : Int) x1 x2 (tw σ m V)) (t_X9_act x1 x2 V) := by
  unfold f_X9_act t_X9_act
  refine te_gr h (f := 928) rfl ?_
  refine te_ga h rfl (fun v2 => ?_)
  refine te_gr h (f := 915) rfl ?_
  refine te_ga h rfl (fun v4 => ?_)
  refine te_gr h (f := 921) rfl ?_
  refine te_ga h rfl (fun v6 => ?_)
  refine te_gr h (f := 923) rfl ?_
  refine te_ga h rfl (fun v8 => ?_)
  refine te_gr h (f := 924) rfl ?_
  refine te_ga h rfl (fun v10 => ?_)
  refine te_if ?_ ?_
  · exact (e_X9_act_58 h)
  · refine te_gr h (f := 923) rfl ?_
    refine te_ga h rfl (fun v12 => ?_)
    refine te_gr h (f := 924) rfl ?_
    refine te_ga h rfl (fun v14 => ?_)
    refine te_is h ?_
    refine te_ci (e_X9_worth h) (fun v15 V16 => ?_)
    exact (e_X9_act_58 h)
noncomputable def t_X9_step_125 (x1 x2 x3 x6 t0 : Int) (V : zW) : Option zW :=
  twl (us V 944 t0) fun V1 =>
  zlet (V1.1 945) fun v3 =>
  (tpa V1 950 v3 x1).bind fun V4 =>
  zlet (V4.1 945) fun v6 =>
  (tpa V4 949 v6 x6).bind fun V7 =>
  zlet (V7.1 945) fun v9 =>
  (tpa V7 951 v9 x2).bind fun V10 =>
  zlet (V10.1 945) fun v12 =>
  (tpa V10 952 v12 x3).bind fun V13 =>
  zlet (V13.1 945) fun v14 =>
  twl (us V13 945 (zadd v14 1)) fun V15 =>
  some V15
theorem e_X9_step_125 {σ : zM} {m : Nat} (h : tOK m σ) {x1 x2 x3 x6 t0 : Int} {V : zW} : tR (tfv σ m) (f_X9_step_125 (m : Int) x1 x2 x3 x6 t0 (m : Int) (tw σ m V)) (t_X9_step_125 x1 x2 x3 x6 t0 V) := by
  unfold f_X9_step_125 t_X9_step_125
  refine te_ps h rfl (fun V1 => ?_)
  refine te_gr h (f := 950) rfl ?_
  refine te_gs h rfl (fun v3 => ?_)
  refine te_pa h rfl (fun V4 => ?_)
  refine te_gr h (f := 949) rfl ?_
  refine te_gs h rfl (fun v6 => ?_)
  refine te_pa h rfl (fun V7 => ?_)
  refine te_gr h (f := 951) rfl ?_
  refine te_gs h rfl (fun v9 => ?_)
  refine te_pa h rfl (fun V10 => ?_)
  refine te_gr h (f := 952) rfl ?_
  refine te_gs h rfl (fun v12 => ?_)
  refine te_pa h rfl (fun V13 => ?_)
  refine te_gs h rfl (fun v14 => ?_)
  refine te_ps h rfl (fun V15 => ?_)
  exact te_some rfl
noncomputable def t_X9_step_80 (x1 x2 x3 x4 x6 : Int) (V : zW) : Option zW :=
  if x6 ≠ 96 then
    (tpa V 947 x6 x4).bind fun V2 =>
    zlet (V2.1 944) fun v3 =>
    if x6 ≠ v3 then
      zlet (V2.1 944) fun v4 =>
      t_X9_step_125 x1 x2 x3 x6 v4 V2
    else
      zlet (V2.1 944) fun v5 =>
      t_X9_step_125 x1 x2 x3 x6 (zadd v5 1) V2
  else
    zgd (z01 1) <|
    twl (us V 946 1) fun V6 =>
    some V6
theorem e_X9_step_80 {σ : zM} {m : Nat} (h : tOK m σ) {x1 x2 x3 x4 x6 : Int} {V : zW} : tR (tfv σ m) (f_X9_step_80 (m : Int) x1 x2 x3 x4 x6 (tw σ m V)) (t_X9_step_80 x1 x2 x3 x4 x6 V) := by
  unfold f_X9_step_80 t_X9_step_80
  refine te_if ?_ ?_
  · refine te_gr h (f := 947) rfl ?_
    refine te_pa h rfl (fun V2 => ?_)
    refine te_gs h rfl (fun v3 => ?_)
    refine te_if ?_ ?_
    · refine te_gs h rfl (fun v4 => ?_)
      exact (e_X9_step_125 h)
    · refine te_gs h rfl (fun v5 => ?_)
      exact (e_X9_step_125 h)
  · refine te_gd ?_
    refine te_ps h rfl (fun V6 => ?_)
    exact te_some rfl
noncomputable def t_X9_step_52_b (x1 x2 x3 x4 x6 : Int) (V : zW) : Option ((Int) ⊕ zW) :=
  zlet (V.1 944) fun v1 =>
  if v1 ≤ x6 then
    (t_X9_step_80 x1 x2 x3 x4 x6 V).map (fun r => (.inr r))
  else
    (tga V 947 x6).bind fun v3 =>
    if (zlcmp v3 x4) = 0 then
      (t_X9_step_80 x1 x2 x3 x4 x6 V).map (fun r => (.inr r))
    else
      zlet (zadd x6 1) fun y4 =>
      some (.inl y4)
theorem e_X9_step_52_b {σ : zM} {m : Nat} (h : tOK m σ) {x1 x2 x3 x4 x6 : Int} {V : zW} : tR (Sum.map id (tfv σ m)) (f_X9_step_52_b (m : Int) x1 x2 x3 x4 x6 (tw σ m V)) (t_X9_step_52_b x1 x2 x3 x4 x6 V) := by
  unfold f_X9_step_52_b t_X9_step_52_b
  refine te_gs h rfl (fun v1 => ?_)
  refine te_if ?_ ?_
  · exact te_map (e_X9_step_80 h) (fun r => rfl)
  · refine te_gr h (f := 947) rfl ?_
    refine te_ga h rfl (fun v3 => ?_)
    refine te_if ?_ ?_
    · exact te_map (e_X9_step_80 h) (fun r => rfl)
    · refine te_let (fun y4 => ?_)
      exact te_some rfl
noncomputable def t_X9_step_52 (x1 x2 x3 x4 x6 : Int) (V : zW) : Option zW :=
  zloop (fun s : Int => t_X9_step_52_b x1 x2 x3 x4 s V) x6
theorem e_X9_step_52 {σ : zM} {m : Nat} (h : tOK m σ) {x1 x2 x3 x4 x6 : Int} {V : zW} : tR (tfv σ m) (f_X9_step_52 (m : Int) x1 x2 x3 x4 x6 (tw σ m V)) (t_X9_step_52 x1 x2 x3 x4 x6 V) := by
  unfold f_X9_step_52 t_X9_step_52
  refine te_loop (φ := id) (s := x6) (fun s => ?_)
  exact e_X9_step_52_b h
noncomputable def t_X9_step_43 (x1 x2 x3 : Int) (V : zW) : Option zW :=
  tcj (t_X9_packed V) fun v1 V2 =>
  t_X9_step_52 x1 x2 x3 v1 0 V2
theorem e_X9_step_43 {σ : zM} {m : Nat} (h : tOK m σ) {x1 x2 x3 : Int} {V : zW} : tR (tfv σ m) (f_X9_step_43 (m : Int) x1 x2 x3 (tw σ m V)) (t_X9_step_43 x1 x2 x3 V) := by
  unfold f_X9_step_43 t_X9_step_43
  refine te_is h ?_
  refine te_cj (e_X9_packed h) (fun v1 V2 => ?_)
  exact (e_X9_step_52 h)
noncomputable def t_X9_step_15 (x1 x2 x3 : Int) (V : zW) : Option zW :=
  zlet (V.1 946) fun v1 =>
  if v1 = 0 then
    (tga V 947 x1).bind fun v3 =>
    tcv (t_X9_unpack v3 V) fun V4 =>
    if x2 < 0 then
      t_X9_step_43 x1 x2 x3 V4
    else
      tcv (t_X9_act x2 x3 V4) fun V5 =>
      t_X9_step_43 x1 x2 x3 V5
  else
    some V
theorem e_X9_step_15 {σ : zM} {m : Nat} (h : tOK m σ) {x1 x2 x3 : Int} {V : zW} : tR (tfv σ m) (f_X9_step_15 (m : Int) x1 x2 x3 (tw σ m V)) (t_X9_step_15 x1 x2 x3 V) := by
  unfold f_X9_step_15 t_X9_step_15
  refine te_gs h rfl (fun v1 => ?_)
  refine te_if ?_ ?_
  · refine te_gr h (f := 947) rfl ?_
    refine te_ga h rfl (fun v3 => ?_)
    refine te_is h ?_
    refine te_cv (e_X9_unpack h) (fun V4 => ?_)
    refine te_if ?_ ?_
    · exact (e_X9_step_43 h)
    · refine te_is h ?_
      refine te_cv (e_X9_act h) (fun V5 => ?_)
      exact (e_X9_step_43 h)
  · exact te_some rfl
noncomputable def t_X9_step (x1 x2 x3 : Int) (V : zW) : Option zW :=
  zlet (V.1 945) fun v1 =>
  if v1 ≠ 400 then
    t_X9_step_15 x1 x2 x3 V
  else
    zgd (z01 1) <|
    twl (us V 946 1) fun V2 =>
    t_X9_step_15 x1 x2 x3 V2
theorem e_X9_step {σ : zM} {m : Nat} (h : tOK m σ) {x1 x2 x3 : Int} {V : zW} : tR (tfv σ m) (f_X9_step (m : Int) x1 x2 x3 (tw σ m V)) (t_X9_step x1 x2 x3 V) := by
  unfold f_X9_step t_X9_step
  refine te_gs h rfl (fun v1 => ?_)
  refine te_if ?_ ?_
  · exact (e_X9_step_15 h)
  · refine te_gd ?_
    refine te_ps h rfl (fun V2 => ?_)
    exact (e_X9_step_15 h)
noncomputable def t_X9_expand_192 (V : zW) : Option zW :=
  some V
theorem e_X9_expand_192 {σ : zM} {m : Nat} (h : tOK m σ) {V : zW} : tR (tfv σ m) (f_X9_expand_192  (tw σ m V)) (t_X9_expand_192  V) := by
  unfold f_X9_expand_192 t_X9_expand_192
  exact te_some rfl
noncomputable def t_X9_expand_179 (x1 x2 : Int) (V : zW) : Option zW :=
  if (zlcmp x2 0) ≠ 0 then
    t_X9_expand_192 V
  else
    tcv (t_X9_step x1 (-1) (-1) V) fun V1 =>
    t_X9_expand_192 V1
theorem e_X9_expand_179 {σ : zM} {m : Nat} (h : tOK m σ) {x1 x2 : Int} {V : zW} : tR (tfv σ m) (f_X9_expand_179 (m : Int) x1 x2 (tw σ m V)) (t_X9_expand_179 x1 x2 V) := by
  unfold f_X9_expand_179 t_X9_expand_179
  refine te_if ?_ ?_
  · exact (e_X9_expand_192 h)
  · refine te_is h ?_
    refine te_cv (e_X9_step h) (fun V1 => ?_)
    exact (e_X9_expand_192 h)
noncomputable def t_X9_expand_173 (x1 x2 x4 : Int) (V : zW) : Option ((Int × zW) ⊕ zW) :=
  zlet (zadd x4 1) fun y1 =>
  some (.inl (y1, V))
theorem e_X9_expand_173 {σ : zM} {m : Nat} (h : tOK m σ) {x1 x2 x4 : Int} {V : zW} : tR (Sum.map (fun s => (s.1, tw σ m s.2)) (tfv σ m)) (f_X9_expand_173 (m : Int) x1 x2 x4 (tw σ m V)) (t_X9_expand_173 x1 x2 x4 V) := by
  unfold f_X9_expand_173 t_X9_expand_173
  refine te_let (fun y1 => ?_)
  exact te_some rfl
noncomputable def t_X9_expand_167 (x1 x2 x4 x5 x6 x7 : Int) (V : zW) : Option ((Int × zW) ⊕ ((Int × zW) ⊕ zW)) :=
  zlet (zadd x7 1) fun y1 =>
  some (.inl (y1, V))
theorem e_X9_expand_167 {σ : zM} {m : Nat} (h : tOK m σ) {x1 x2 x4 x5 x6 x7 : Int} {V : zW} : tR (Sum.map (fun s => (s.1, tw σ m s.2)) (Sum.map (fun s => (s.1, tw σ m s.2)) (tfv σ m))) (f_X9_expand_167 (m : Int) x1 x2 x4 x5 x6 x7 (tw σ m V)) (t_X9_expand_167 x1 x2 x4 x5 x6 x7 V) := by
  unfold f_X9_expand_167 t_X9_expand_167
  refine te_let (fun y1 => ?_)
  exact te_some rfl
noncomputable def t_X9_expand_116_b (x1 x2 x4 x5 x6 x7 : Int) (V : zW) : Option ((Int × zW) ⊕ ((Int × zW) ⊕ zW)) :=
  zlet (V.1 927) fun v1 =>
  if v1 ≤ x7 then
    (t_X9_expand_173 x1 x2 x4 V).map (fun r => (.inr r))
  else
    if x6 = 0 then
      (t_X9_expand_173 x1 x2 x4 V).map (fun r => (.inr r))
    else
      zlet (V.1 946) fun v2 =>
      if v2 ≠ 0 then
        (t_X9_expand_173 x1 x2 x4 V).map (fun r => (.inr r))
      else
        (tga V 947 x1).bind fun v4 =>
        tcv (t_X9_unpack v4 V) fun V5 =>
        tci (t_X9_meets x5 x7 V5) fun v6 V7 =>
        if v6 = 0 then
          t_X9_expand_167 x1 x2 x4 x5 x6 x7 V7
        else
          tcv (t_X9_step x1 x4 x7 V7) fun V8 =>
          t_X9_expand_167 x1 x2 x4 x5 x6 x7 V8
theorem e_X9_expand_116_b {σ : zM} {m : Nat} (h : tOK m σ) {x1 x2 x4 x5 x6 x7 : Int} {V : zW} : tR (Sum.map (fun s => (s.1, tw σ m s.2)) (Sum.map (fun s => (s.1, tw σ m s.2)) (tfv σ m))) (f_X9_expand_116_b (m : Int) x1 x2 x4 x5 x6 x7 (tw σ m V)) (t_X9_expand_116_b x1 x2 x4 x5 x6 x7 V) := by
  unfold f_X9_expand_116_b t_X9_expand_116_b
  refine te_gs h rfl (fun v1 => ?_)
  refine te_if ?_ ?_
  · exact te_map (e_X9_expand_173 h) (fun r => rfl)
  · refine te_if ?_ ?_
    · exact te_map (e_X9_expand_173 h) (fun r => rfl)
    · refine te_gs h rfl (fun v2 => ?_)
      refine te_if ?_ ?_
      · exact te_map (e_X9_expand_173 h) (fun r => rfl)
      · refine te_gr h (f := 947) rfl ?_
        refine te_ga h rfl (fun v4 => ?_)
        refine te_is h ?_
        refine te_cv (e_X9_unpack h) (fun V5 => ?_)
        refine te_is h ?_
        refine te_ci (e_X9_meets h) (fun v6 V7 => ?_)
        refine te_if ?_ ?_
        · exact (e_X9_expand_167 h)
        · refine te_is h ?_
          refine te_cv (e_X9_step h) (fun V8 => ?_)
          exact (e_X9_expand_167 h)
noncomputable def t_X9_expand_116 (x1 x2 x4 x5 x6 x7 : Int) (V : zW) : Option ((Int × zW) ⊕ zW) :=
  zloop (fun s : Int × zW => t_X9_expand_116_b x1 x2 x4 x5 x6 s.1 s.2) (x7, V)
theorem e_X9_expand_116 {σ : zM} {m : Nat} (h : tOK m σ) {x1 x2 x4 x5 x6 x7 : Int} {V : zW} : tR (Sum.map (fun s => (s.1, tw σ m s.2)) (tfv σ m)) (f_X9_expand_116 (m : Int) x1 x2 x4 x5 x6 x7 (tw σ m V)) (t_X9_expand_116 x1 x2 x4 x5 x6 x7 V) := by
  unfold f_X9_expand_116 t_X9_expand_116
  refine te_loop (φ := (fun s => (s.1, tw σ m s.2))) (s := (x7, V)) (fun s => ?_)
  exact e_X9_expand_116_b h
noncomputable def t_X9_expand_113 (x1 x2 x4 x5 x6 : Int) (V : zW) : Option ((Int × zW) ⊕ zW) :=
  t_X9_expand_116 x1 x2 x4 x5 x6 0 V
theorem e_X9_expand_113 {σ : zM} {m : Nat} (h : tOK m σ) {x1 x2 x4 x5 x6 : Int} {V : zW} : tR (Sum.map (fun s => (s.1, tw σ m s.2)) (tfv σ m)) (f_X9_expand_113 (m : Int) x1 x2 x4 x5 x6 (tw σ m V)) (t_X9_expand_113 x1 x2 x4 x5 x6 V) := by
  unfold f_X9_expand_113 t_X9_expand_113
  exact (e_X9_expand_116 h)
noncomputable def t_X9_expand_98 (x1 x2 x4 x5 t0 : Int) (V : zW) : Option ((Int × zW) ⊕ zW) :=
  if t0 ≠ 0 then
    t_X9_expand_113 x1 x2 x4 x5 t0 V
  else
    tcv (t_X9_step x1 x4 (-1) V) fun V1 =>
    t_X9_expand_113 x1 x2 x4 x5 t0 V1
theorem e_X9_expand_98 {σ : zM} {m : Nat} (h : tOK m σ) {x1 x2 x4 x5 t0 : Int} {V : zW} : tR (Sum.map (fun s => (s.1, tw σ m s.2)) (tfv σ m)) (f_X9_expand_98 (m : Int) x1 x2 x4 x5 t0 (tw σ m V)) (t_X9_expand_98 x1 x2 x4 x5 t0 V) := by
  unfold f_X9_expand_98 t_X9_expand_98
  refine te_if ?_ ?_
  · exact (e_X9_expand_113 h)
  · refine te_is h ?_
    refine te_cv (e_X9_step h) (fun V1 => ?_)
    exact (e_X9_expand_113 h)
noncomputable def t_X9_expand_97 (x1 x2 x4 x5 : Int) (V : zW) : Option ((Int × zW) ⊕ zW) :=
  t_X9_expand_98 x1 x2 x4 x5 0 V
theorem e_X9_expand_97 {σ : zM} {m : Nat} (h : tOK m σ) {x1 x2 x4 x5 : Int} {V : zW} : tR (Sum.map (fun s => (s.1, tw σ m s.2)) (tfv σ m)) (f_X9_expand_97 (m : Int) x1 x2 x4 x5 (tw σ m V)) (t_X9_expand_97 x1 x2 x4 x5 V) := by
  unfold f_X9_expand_97 t_X9_expand_97
  exact (e_X9_expand_98 h)
noncomputable def t_X9_expand_28_b (x1 x2 x4 : Int) (V : zW) : Option ((Int × zW) ⊕ zW) :=
  zlet (V.1 927) fun v1 =>
  if v1 ≤ x4 then
    (t_X9_expand_179 x1 x2 V).map (fun r => (.inr r))
  else
    zlet (V.1 946) fun v2 =>
    if v2 ≠ 0 then
      (t_X9_expand_179 x1 x2 V).map (fun r => (.inr r))
    else
      if (zlcmp (jand (jshr x2 x4) 1) 0) ≠ 0 then
        (tga V 928 x4).bind fun v4 =>
        (tga V 914 v4).bind fun v6 =>
        if v6 ≠ 2 then
          t_X9_expand_97 x1 x2 x4 v4 V
        else
          (tga V 921 v4).bind fun v9 =>
          (tga V 912 v9).bind fun v10 =>
          if v10 ≠ 0 then
            t_X9_expand_97 x1 x2 x4 v4 V
          else
            t_X9_expand_98 x1 x2 x4 v4 1 V
      else
        t_X9_expand_173 x1 x2 x4 V
theorem e_X9_expand_28_b {σ : zM} {m : Nat} (h : tOK m σ) {x1 x2 x4 : Int} {V : zW} : tR (Sum.map (fun s => (s.1, tw σ m s.2)) (tfv σ m)) (f_X9_expand_28_b (m : Int) x1 x2 x4 (tw σ m V)) (t_X9_expand_28_b x1 x2 x4 V) := by
  unfold f_X9_expand_28_b t_X9_expand_28_b
  refine te_gs h rfl (fun v1 => ?_)
  refine te_if ?_ ?_
  · exact te_map (e_X9_expand_179 h) (fun r => rfl)
  · refine te_gs h rfl (fun v2 => ?_)
    refine te_if ?_ ?_
    · exact te_map (e_X9_expand_179 h) (fun r => rfl)
    · refine te_if ?_ ?_
      · refine te_gr h (f := 928) rfl ?_
        refine te_ga h rfl (fun v4 => ?_)
        refine te_gr h (f := 914) rfl ?_
        refine te_ga h rfl (fun v6 => ?_)
        refine te_if ?_ ?_
        · exact (e_X9_expand_97 h)
        · refine te_gr h (f := 912) rfl ?_
          refine te_gr h (f := 921) rfl ?_
          refine te_ga h rfl (fun v9 => ?_)
          refine te_ga h rfl (fun v10 => ?_)
          refine te_if ?_ ?_
          · exact (e_X9_expand_97 h)
          · exact (e_X9_expand_98 h)
      · exact (e_X9_expand_173 h)
noncomputable def t_X9_expand_28 (x1 x2 x4 : Int) (V : zW) : Option zW :=
  zloop (fun s : Int × zW => t_X9_expand_28_b x1 x2 s.1 s.2) (x4, V)
theorem e_X9_expand_28 {σ : zM} {m : Nat} (h : tOK m σ) {x1 x2 x4 : Int} {V : zW} : tR (tfv σ m) (f_X9_expand_28 (m : Int) x1 x2 x4 (tw σ m V)) (t_X9_expand_28 x1 x2 x4 V) := by
  unfold f_X9_expand_28 t_X9_expand_28
  refine te_loop (φ := (fun s => (s.1, tw σ m s.2))) (s := (x4, V)) (fun s => ?_)
  exact e_X9_expand_28_b h
noncomputable def t_X9_expand (x1 : Int) (V : zW) : Option zW :=
  zlet (V.1 945) fun v2 =>
  (tpa V 948 x1 v2).bind fun V3 =>
  (tga V3 947 x1).bind fun v5 =>
  tcv (t_X9_unpack v5 V3) fun V6 =>
  tcj (t_X9_doable V6) fun v7 V8 =>
  t_X9_expand_28 x1 v7 0 V8
theorem e_X9_expand {σ : zM} {m : Nat} (h : tOK m σ) {x1 : Int} {V : zW} : tR (tfv σ m) (f_X9_expand (m : Int) x1 (tw σ m V)) (t_X9_expand x1 V) := by
  unfold f_X9_expand t_X9_expand
  refine te_gr h (f := 948) rfl ?_
  refine te_gs h rfl (fun v2 => ?_)
  refine te_pa h rfl (fun V3 => ?_)
  refine te_gr h (f := 947) rfl ?_
  refine te_ga h rfl (fun v5 => ?_)
  refine te_is h ?_
  refine te_cv (e_X9_unpack h) (fun V6 => ?_)
  refine te_is h ?_
  refine te_cj (e_X9_doable h) (fun v7 V8 => ?_)
  exact (e_X9_expand_28 h)
noncomputable def t_X9_reach_242 (t0 : Int) (V : zW) : Option (Int × zW) :=
  zgd (z01 t0) <|
  some (t0, V)
theorem e_X9_reach_242 {σ : zM} {m : Nat} (h : tOK m σ) {t0 : Int} {V : zW} : tR (tfi σ m) (f_X9_reach_242 t0 (tw σ m V)) (t_X9_reach_242 t0 V) := by
  unfold f_X9_reach_242 t_X9_reach_242
  refine te_gd ?_
  exact te_some rfl
noncomputable def t_X9_reach_220 (x1 : Int) (V : zW) : Option (Int × zW) :=
  zlet (V.1 944) fun v2 =>
  (tpa V 953 v2 x1).bind fun V3 =>
  zlet (V3.1 946) fun v4 =>
  if v4 ≠ 0 then
    t_X9_reach_242 0 V3
  else
    t_X9_reach_242 1 V3
theorem e_X9_reach_220 {σ : zM} {m : Nat} (h : tOK m σ) {x1 : Int} {V : zW} : tR (tfi σ m) (f_X9_reach_220 (m : Int) x1 (tw σ m V)) (t_X9_reach_220 x1 V) := by
  unfold f_X9_reach_220 t_X9_reach_220
  refine te_gr h (f := 953) rfl ?_
  refine te_gs h rfl (fun v2 => ?_)
  refine te_pa h rfl (fun V3 => ?_)
  refine te_gs h rfl (fun v4 => ?_)
  refine te_if ?_ ?_
  · exact (e_X9_reach_242 h)
  · exact (e_X9_reach_242 h)
noncomputable def t_X9_reach_214 (x1 x2 : Int) (V : zW) : Option ((Int × Int × zW) ⊕ (Int × zW)) :=
  zlet (zadd x2 1) fun y1 =>
  some (.inl (x1, y1, V))
theorem e_X9_reach_214 {σ : zM} {m : Nat} (h : tOK m σ) {x1 x2 : Int} {V : zW} : tR (Sum.map (fun s => (s.1, s.2.1, tw σ m s.2.2)) (tfi σ m)) (f_X9_reach_214 (m : Int) x1 x2 (tw σ m V)) (t_X9_reach_214 x1 x2 V) := by
  unfold f_X9_reach_214 t_X9_reach_214
  refine te_let (fun y1 => ?_)
  exact te_some rfl
noncomputable def t_X9_reach_208 (x1 x2 x3 : Int) (V : zW) : Option ((Int × Int × zW) ⊕ ((Int × Int × zW) ⊕ (Int × zW))) :=
  zlet (zadd x3 1) fun y1 =>
  some (.inl (x1, y1, V))
theorem e_X9_reach_208 {σ : zM} {m : Nat} (h : tOK m σ) {x1 x2 x3 : Int} {V : zW} : tR (Sum.map (fun s => (s.1, s.2.1, tw σ m s.2.2)) (Sum.map (fun s => (s.1, s.2.1, tw σ m s.2.2)) (tfi σ m))) (f_X9_reach_208 (m : Int) x1 x2 x3 (tw σ m V)) (t_X9_reach_208 x1 x2 x3 V) := by
  unfold f_X9_reach_208 t_X9_reach_208
  refine te_let (fun y1 => ?_)
  exact te_some rfl
noncomputable def t_X9_reach_180_b (x1 x2 x3 : Int) (V : zW) : Option ((Int × Int × zW) ⊕ ((Int × Int × zW) ⊕ (Int × zW))) :=
  zlet (V.1 945) fun v1 =>
  if v1 ≤ x3 then
    (t_X9_reach_214 x1 x2 V).map (fun r => (.inr r))
  else
    (tga V 949 x3).bind fun v3 =>
    if v3 ≠ x2 then
      t_X9_reach_208 x1 x2 x3 V
    else
      (tpa V 954 x1 x3).bind fun V5 =>
      zlet (zadd x1 1) fun y6 =>
      t_X9_reach_208 y6 x2 x3 V5
theorem e_X9_reach_180_b {σ : zM} {m : Nat} (h : tOK m σ) {x1 x2 x3 : Int} {V : zW} : tR (Sum.map (fun s => (s.1, s.2.1, tw σ m s.2.2)) (Sum.map (fun s => (s.1, s.2.1, tw σ m s.2.2)) (tfi σ m))) (f_X9_reach_180_b (m : Int) x1 x2 x3 (tw σ m V)) (t_X9_reach_180_b x1 x2 x3 V) := by
  unfold f_X9_reach_180_b t_X9_reach_180_b
  refine te_gs h rfl (fun v1 => ?_)
  refine te_if ?_ ?_
  · exact te_map (e_X9_reach_214 h) (fun r => rfl)
  · refine te_gr h (f := 949) rfl ?_
    refine te_ga h rfl (fun v3 => ?_)
    refine te_if ?_ ?_
    · exact (e_X9_reach_208 h)
    · refine te_gr h (f := 954) rfl ?_
      refine te_pa h rfl (fun V5 => ?_)
      refine te_let (fun y6 => ?_)
      exact (e_X9_reach_208 h)
noncomputable def t_X9_reach_180 (x1 x2 x3 : Int) (V : zW) : Option ((Int × Int × zW) ⊕ (Int × zW)) :=
  zloop (fun s : Int × Int × zW => t_X9_reach_180_b s.1 x2 s.2.1 s.2.2) (x1, x3, V)
theorem e_X9_reach_180 {σ : zM} {m : Nat} (h : tOK m σ) {x1 x2 x3 : Int} {V : zW} : tR (Sum.map (fun s => (s.1, s.2.1, tw σ m s.2.2)) (tfi σ m)) (f_X9_reach_180 (m : Int) x1 x2 x3 (tw σ m V)) (t_X9_reach_180 x1 x2 x3 V) := by
  unfold f_X9_reach_180 t_X9_reach_180
  refine te_loop (φ := (fun s => (s.1, s.2.1, tw σ m s.2.2))) (s := (x1, x3, V)) (fun s => ?_)
  exact e_X9_reach_180_b h
noncomputable def t_X9_reach_163_b (x1 x2 : Int) (V : zW) : Option ((Int × Int × zW) ⊕ (Int × zW)) :=
  zlet (V.1 944) fun v1 =>
  if v1 ≤ x2 then
    (t_X9_reach_220 x1 V).map (fun r => (.inr r))
  else
    (tpa V 953 x2 x1).bind fun V3 =>
    t_X9_reach_180 x1 x2 0 V3
theorem e_X9_reach_163_b {σ : zM} {m : Nat} (h : tOK m σ) {x1 x2 : Int} {V : zW} : tR (Sum.map (fun s => (s.1, s.2.1, tw σ m s.2.2)) (tfi σ m)) (f_X9_reach_163_b (m : Int) x1 x2 (tw σ m V)) (t_X9_reach_163_b x1 x2 V) := by
  unfold f_X9_reach_163_b t_X9_reach_163_b
  refine te_gs h rfl (fun v1 => ?_)
  refine te_if ?_ ?_
  · exact te_map (e_X9_reach_220 h) (fun r => rfl)
  · refine te_gr h (f := 953) rfl ?_
    refine te_pa h rfl (fun V3 => ?_)
    exact (e_X9_reach_180 h)
noncomputable def t_X9_reach_163 (x1 x2 : Int) (V : zW) : Option (Int × zW) :=
  zloop (fun s : Int × Int × zW => t_X9_reach_163_b s.1 s.2.1 s.2.2) (x1, x2, V)
theorem e_X9_reach_163 {σ : zM} {m : Nat} (h : tOK m σ) {x1 x2 : Int} {V : zW} : tR (tfi σ m) (f_X9_reach_163 (m : Int) x1 x2 (tw σ m V)) (t_X9_reach_163 x1 x2 V) := by
  unfold f_X9_reach_163 t_X9_reach_163
  refine te_loop (φ := (fun s => (s.1, s.2.1, tw σ m s.2.2))) (s := (x1, x2, V)) (fun s => ?_)
  exact e_X9_reach_163_b h
noncomputable def t_X9_reach_146 (V : zW) : Option (Int × zW) :=
  zlet (V.1 944) fun v2 =>
  zlet (V.1 945) fun v3 =>
  (tpa V 948 v2 v3).bind fun V4 =>
  t_X9_reach_163 0 0 V4
theorem e_X9_reach_146 {σ : zM} {m : Nat} (h : tOK m σ) {V : zW} : tR (tfi σ m) (f_X9_reach_146 (m : Int) (tw σ m V)) (t_X9_reach_146  V) := by
  unfold f_X9_reach_146 t_X9_reach_146
  refine te_gr h (f := 948) rfl ?_
  refine te_gs h rfl (fun v2 => ?_)
  refine te_gs h rfl (fun v3 => ?_)
  refine te_pa h rfl (fun V4 => ?_)
  exact (e_X9_reach_163 h)
noncomputable def t_X9_reach_120_b (x1 : Int) (V : zW) : Option ((Int × zW) ⊕ (Int × zW)) :=
  zlet (V.1 944) fun v1 =>
  if v1 ≤ x1 then
    (t_X9_reach_146 V).map (fun r => (.inr r))
  else
    zlet (V.1 946) fun v2 =>
    if v2 ≠ 0 then
      (t_X9_reach_146 V).map (fun r => (.inr r))
    else
      tcv (t_X9_expand x1 V) fun V3 =>
      zlet (zadd x1 1) fun y4 =>
      some (.inl (y4, V3))
theorem e_X9_reach_120_b {σ : zM} {m : Nat} (h : tOK m σ) {x1 : Int} {V : zW} : tR (Sum.map (fun s => (s.1, tw σ m s.2)) (tfi σ m)) (f_X9_reach_120_b (m : Int) x1 (tw σ m V)) (t_X9_reach_120_b x1 V) := by
  unfold f_X9_reach_120_b t_X9_reach_120_b
  refine te_gs h rfl (fun v1 => ?_)
  refine te_if ?_ ?_
  · exact te_map (e_X9_reach_146 h) (fun r => rfl)
  · refine te_gs h rfl (fun v2 => ?_)
    refine te_if ?_ ?_
    · exact te_map (e_X9_reach_146 h) (fun r => rfl)
    · refine te_is h ?_
      refine te_cv (e_X9_expand h) (fun V3 => ?_)
      refine te_let (fun y4 => ?_)
      exact te_some rfl
noncomputable def t_X9_reach_120 (x1 : Int) (V : zW) : Option (Int × zW) :=
  zloop (fun s : Int × zW => t_X9_reach_120_b s.1 s.2) (x1, V)
theorem e_X9_reach_120 {σ : zM} {m : Nat} (h : tOK m σ) {x1 : Int} {V : zW} : tR (tfi σ m) (f_X9_reach_120 (m : Int) x1 (tw σ m V)) (t_X9_reach_120 x1 V) := by
  unfold f_X9_reach_120 t_X9_reach_120
  refine te_loop (φ := (fun s => (s.1, tw σ m s.2))) (s := (x1, V)) (fun s => ?_)
  exact e_X9_reach_120_b h
noncomputable def t_X9_reach_88 (V : zW) : Option (Int × zW) :=
  twl (us V 959 (-1)) fun V1 =>
  tcj (t_X9_packed V1) fun v3 V4 =>
  (tpa V4 947 0 v3).bind fun V5 =>
  twl (us V5 944 1) fun V6 =>
  twl (us V6 945 0) fun V7 =>
  zgd (z01 0) <|
  twl (us V7 946 0) fun V8 =>
  t_X9_reach_120 0 V8
theorem e_X9_reach_88 {σ : zM} {m : Nat} (h : tOK m σ) {V : zW} : tR (tfi σ m) (f_X9_reach_88 (m : Int) (tw σ m V)) (t_X9_reach_88  V) := by
  unfold f_X9_reach_88 t_X9_reach_88
  refine te_ps h rfl (fun V1 => ?_)
  refine te_gr h (f := 947) rfl ?_
  refine te_is h ?_
  refine te_cj (e_X9_packed h) (fun v3 V4 => ?_)
  refine te_pa h rfl (fun V5 => ?_)
  refine te_ps h rfl (fun V6 => ?_)
  refine te_ps h rfl (fun V7 => ?_)
  refine te_gd ?_
  refine te_ps h rfl (fun V8 => ?_)
  exact (e_X9_reach_120 h)
noncomputable def t_X9_reach_53_b (x1 : Int) (V : zW) : Option ((Int × zW) ⊕ (Int × zW)) :=
  zlet (V.1 930) fun v1 =>
  if v1 ≤ x1 then
    (t_X9_reach_88 V).map (fun r => (.inr r))
  else
    (tga V 932 x1).bind fun v4 =>
    tci (t_X9_instead v4 V) fun v5 V6 =>
    tci (t_X9_pointOf x1 v5 V6) fun v7 V8 =>
    (tpa V8 958 x1 v7).bind fun V9 =>
    zlet (zadd x1 1) fun y10 =>
    some (.inl (y10, V9))
theorem e_X9_reach_53_b {σ : zM} {m : Nat} (h : tOK m σ) {x1 : Int} {V : zW} : tR (Sum.map (fun s => (s.1, tw σ m s.2)) (tfi σ m)) (f_X9_reach_53_b (m : Int) x1 (tw σ m V)) (t_X9_reach_53_b x1 V) := by
  unfold f_X9_reach_53_b t_X9_reach_53_b
  refine te_gs h rfl (fun v1 => ?_)
  refine te_if ?_ ?_
  · exact te_map (e_X9_reach_88 h) (fun r => rfl)
  · refine te_gr h (f := 958) rfl ?_
    refine te_gr h (f := 932) rfl ?_
    refine te_ga h rfl (fun v4 => ?_)
    refine te_is h ?_
    refine te_ci (e_X9_instead h) (fun v5 V6 => ?_)
    refine te_is h ?_
    refine te_ci (e_X9_pointOf h) (fun v7 V8 => ?_)
    refine te_pa h rfl (fun V9 => ?_)
    refine te_let (fun y10 => ?_)
    exact te_some rfl
noncomputable def t_X9_reach_53 (x1 : Int) (V : zW) : Option (Int × zW) :=
  zloop (fun s : Int × zW => t_X9_reach_53_b s.1 s.2) (x1, V)
theorem e_X9_reach_53 {σ : zM} {m : Nat} (h : tOK m σ) {x1 : Int} {V : zW} : tR (tfi σ m) (f_X9_reach_53 (m : Int) x1 (tw σ m V)) (t_X9_reach_53 x1 V) := by
  unfold f_X9_reach_53 t_X9_reach_53
  refine te_loop (φ := (fun s => (s.1, tw σ m s.2))) (s := (x1, V)) (fun s => ?_)
  exact e_X9_reach_53_b h
noncomputable def t_X9_reach_51 (V : zW) : Option (Int × zW) :=
  t_X9_reach_53 0 V
theorem e_X9_reach_51 {σ : zM} {m : Nat} (h : tOK m σ) {V : zW} : tR (tfi σ m) (f_X9_reach_51 (m : Int) (tw σ m V)) (t_X9_reach_51  V) := by
  unfold f_X9_reach_51 t_X9_reach_51
  exact (e_X9_reach_53 h)
noncomputable def t_X9_reach_30_b (x1 : Int) (V : zW) : Option ((Int × zW) ⊕ (Int × zW)) :=
  zlet (V.1 908) fun v1 =>
  if v1 ≤ x1 then
    (t_X9_reach_51 V).map (fun r => (.inr r))
  else
    (tpa V 956 x1 0).bind fun V3 =>
    zlet (zadd x1 1) fun y4 =>
    some (.inl (y4, V3))
theorem e_X9_reach_30_b {σ : zM} {m : Nat} (h : tOK m σ) {x1 : Int} {V : zW} : tR (Sum.map (fun s => (s.1, tw σ m s.2)) (tfi σ m)) (f_X9_reach_30_b (m : Int) x1 (tw σ m V)) (t_X9_reach_30_b x1 V) := by
  unfold f_X9_reach_30_b t_X9_reach_30_b
  refine te_gs h rfl (fun v1 => ?_)
  refine te_if ?_ ?_
  · exact te_map (e_X9_reach_51 h) (fun r => rfl)
  · refine te_gr h (f := 956) rfl ?_
    refine te_pa h rfl (fun V3 => ?_)
    refine te_let (fun y4 => ?_)
    exact te_some rfl
noncomputable def t_X9_reach_30 (x1 : Int) (V : zW) : Option (Int × zW) :=
  zloop (fun s : Int × zW => t_X9_reach_30_b s.1 s.2) (x1, V)
theorem e_X9_reach_30 {σ : zM} {m : Nat} (h : tOK m σ) {x1 : Int} {V : zW} : tR (tfi σ m) (f_X9_reach_30 (m : Int) x1 (tw σ m V)) (t_X9_reach_30 x1 V) := by
  unfold f_X9_reach_30 t_X9_reach_30
  refine te_loop (φ := (fun s => (s.1, tw σ m s.2))) (s := (x1, V)) (fun s => ?_)
  exact e_X9_reach_30_b h
noncomputable def t_X9_reach_28 (V : zW) : Option (Int × zW) :=
  t_X9_reach_30 0 V
theorem e_X9_reach_28 {σ : zM} {m : Nat} (h : tOK m σ) {V : zW} : tR (tfi σ m) (f_X9_reach_28 (m : Int) (tw σ m V)) (t_X9_reach_28  V) := by
  unfold f_X9_reach_28 t_X9_reach_28
  exact (e_X9_reach_30 h)
noncomputable def t_X9_reach_2_b (x1 : Int) (V : zW) : Option ((Int × zW) ⊕ (Int × zW)) :=
  zlet (V.1 907) fun v1 =>
  if v1 ≤ x1 then
    (t_X9_reach_28 V).map (fun r => (.inr r))
  else
    (tga V 911 x1).bind fun v4 =>
    (tpa V 955 x1 v4).bind fun V5 =>
    zlet (zadd x1 1) fun y6 =>
    some (.inl (y6, V5))
theorem e_X9_reach_2_b {σ : zM} {m : Nat} (h : tOK m σ) {x1 : Int} {V : zW} : tR (Sum.map (fun s => (s.1, tw σ m s.2)) (tfi σ m)) (f_X9_reach_2_b (m : Int) x1 (tw σ m V)) (t_X9_reach_2_b x1 V) := by
  unfold f_X9_reach_2_b t_X9_reach_2_b
  refine te_gs h rfl (fun v1 => ?_)
  refine te_if ?_ ?_
  · exact te_map (e_X9_reach_28 h) (fun r => rfl)
  · refine te_gr h (f := 955) rfl ?_
    refine te_gr h (f := 911) rfl ?_
    refine te_ga h rfl (fun v4 => ?_)
    refine te_pa h rfl (fun V5 => ?_)
    refine te_let (fun y6 => ?_)
    exact te_some rfl
noncomputable def t_X9_reach_2 (x1 : Int) (V : zW) : Option (Int × zW) :=
  zloop (fun s : Int × zW => t_X9_reach_2_b s.1 s.2) (x1, V)
theorem e_X9_reach_2 {σ : zM} {m : Nat} (h : tOK m σ) {x1 : Int} {V : zW} : tR (tfi σ m) (f_X9_reach_2 (m : Int) x1 (tw σ m V)) (t_X9_reach_2 x1 V) := by
  unfold f_X9_reach_2 t_X9_reach_2
  refine te_loop (φ := (fun s => (s.1, tw σ m s.2))) (s := (x1, V)) (fun s => ?_)
  exact e_X9_reach_2_b h
noncomputable def t_X9_reach (V : zW) : Option (Int × zW) :=
  t_X9_reach_2 0 V
theorem e_X9_reach {σ : zM} {m : Nat} (h : tOK m σ) {V : zW} : tR (tfi σ m) (f_X9_reach (m : Int) (tw σ m V)) (t_X9_reach  V) := by
  unfold f_X9_reach t_X9_reach
  exact (e_X9_reach_2 h)
noncomputable def t_X9_model_116 (t0 : Int) (V : zW) : Option (Int × zW) :=
  some (t0, V)
theorem e_X9_model_116 {σ : zM} {m : Nat} (h : tOK m σ) {t0 : Int} {V : zW} : tR (tfi σ m) (f_X9_model_116 t0 (tw σ m V)) (t_X9_model_116 t0 V) := by
  unfold f_X9_model_116 t_X9_model_116
  exact te_some rfl
noncomputable def t_X9_model_98 (t0 : Int) (V : zW) : Option (Int × zW) :=
  twl (us V 900 t0) fun V1 =>
  zlet (V1.1 906) fun v2 =>
  if v2 = 0 then
    t_X9_model_116 0 V1
  else
    zlet (V1.1 944) fun v3 =>
    t_X9_model_116 v3 V1
theorem e_X9_model_98 {σ : zM} {m : Nat} (h : tOK m σ) {t0 : Int} {V : zW} : tR (tfi σ m) (f_X9_model_98 (m : Int) t0 (m : Int) (tw σ m V)) (t_X9_model_98 t0 V) := by
  unfold f_X9_model_98 t_X9_model_98
  refine te_ps h rfl (fun V1 => ?_)
  refine te_gs h rfl (fun v2 => ?_)
  refine te_if ?_ ?_
  · exact (e_X9_model_116 h)
  · refine te_gs h rfl (fun v3 => ?_)
    exact (e_X9_model_116 h)
noncomputable def t_X9_model_56 (x1 t0 : Int) (V : zW) : Option (Int × zW) :=
  twl (us V 900 t0) fun V1 =>
  if x1 ≠ 0 then
    zlet (V1.1 936) fun v2 =>
    twl (us V1 967 v2) fun V3 =>
    tcv (t_X9_link V3) fun V4 =>
    tci (t_X9_reach V4) fun v5 V6 =>
    zgd (z01 v5) <|
    twl (us V6 906 v5) fun V7 =>
    zlet (V7.1 906) fun v8 =>
    if v8 = 0 then
      t_X9_model_98 2 V7
    else
      t_X9_model_98 0 V7
  else
    some (0, V1)
theorem e_X9_model_56 {σ : zM} {m : Nat} (h : tOK m σ) {x1 t0 : Int} {V : zW} : tR (tfi σ m) (f_X9_model_56 (m : Int) x1 t0 (m : Int) (tw σ m V)) (t_X9_model_56 x1 t0 V) := by
  unfold f_X9_model_56 t_X9_model_56
  refine te_ps h rfl (fun V1 => ?_)
  refine te_if ?_ ?_
  · refine te_gs h rfl (fun v2 => ?_)
    refine te_ps h rfl (fun V3 => ?_)
    refine te_is h ?_
    refine te_cv (e_X9_link h) (fun V4 => ?_)
    refine te_is h ?_
    refine te_ci (e_X9_reach h) (fun v5 V6 => ?_)
    refine te_gd ?_
    refine te_ps h rfl (fun V7 => ?_)
    refine te_gs h rfl (fun v8 => ?_)
    refine te_if ?_ ?_
    · exact (e_X9_model_98 h)
    · exact (e_X9_model_98 h)
  · exact te_some rfl
noncomputable def t_X9_model_38 (x1 t0 : Int) (V : zW) : Option (Int × zW) :=
  twl (us V 905 t0) fun V1 =>
  twl (us V1 901 0) fun V2 =>
  if x1 = 0 then
    t_X9_model_56 x1 1 V2
  else
    t_X9_model_56 x1 0 V2
theorem e_X9_model_38 {σ : zM} {m : Nat} (h : tOK m σ) {x1 t0 : Int} {V : zW} : tR (tfi σ m) (f_X9_model_38 (m : Int) x1 t0 (m : Int) (tw σ m V)) (t_X9_model_38 x1 t0 V) := by
  unfold f_X9_model_38 t_X9_model_38
  refine te_ps h rfl (fun V1 => ?_)
  refine te_ps h rfl (fun V2 => ?_)
  refine te_if ?_ ?_
  · exact (e_X9_model_56 h)
  · exact (e_X9_model_56 h)
noncomputable def t_X9_model (V : zW) : Option (Int × zW) :=
  zgd (z01 0) <|
  twl (us V 961 0) fun V1 =>
  twl (us V1 978 (-1)) fun V2 =>
  twl (us V2 982 (-1)) fun V3 =>
  zgd (z01 0) <|
  twl (us V3 906 0) fun V4 =>
  tci (t_X9_wholeModel V4) fun v5 V6 =>
  if v5 = 0 then
    zlet (V6.1 904) fun v7 =>
    t_X9_model_38 v5 v7 V6
  else
    t_X9_model_38 v5 (-1) V6
theorem e_X9_model {σ : zM} {m : Nat} (h : tOK m σ) {V : zW} : tR (tfi σ m) (f_X9_model (m : Int) (tw σ m V)) (t_X9_model  V) := by
  unfold f_X9_model t_X9_model
  refine te_gd ?_
  refine te_ps h rfl (fun V1 => ?_)
  refine te_ps h rfl (fun V2 => ?_)
  refine te_ps h rfl (fun V3 => ?_)
  refine te_gd ?_
  refine te_ps h rfl (fun V4 => ?_)
  refine te_is h ?_
  refine te_ci (e_X9_wholeModel h) (fun v5 V6 => ?_)
  refine te_if ?_ ?_
  · refine te_gs h rfl (fun v7 => ?_)
    exact (e_X9_model_38 h)
  · exact (e_X9_model_38 h)
noncomputable def t_X9_place (V : zW) : Option (Int × zW) :=
  twl (us V 900 0) fun V1 =>
  zlet (V1.1 905) fun v2 =>
  some (v2, V1)
theorem e_X9_place {σ : zM} {m : Nat} (h : tOK m σ) {V : zW} : tR (tfi σ m) (f_X9_place (m : Int) (tw σ m V)) (t_X9_place  V) := by
  unfold f_X9_place t_X9_place
  refine te_ps h rfl (fun V1 => ?_)
  refine te_gs h rfl (fun v2 => ?_)
  exact te_some rfl
noncomputable def t_X9_binds_57 (t0 : Int) (V : zW) : Option (Int × zW) :=
  some (t0, V)
theorem e_X9_binds_57 {σ : zM} {m : Nat} (h : tOK m σ) {t0 : Int} {V : zW} : tR (tfi σ m) (f_X9_binds_57 t0 (tw σ m V)) (t_X9_binds_57 t0 V) := by
  unfold f_X9_binds_57 t_X9_binds_57
  exact te_some rfl
noncomputable def t_X9_binds_52 (V : zW) : Option (Int × zW) :=
  t_X9_binds_57 4 V
theorem e_X9_binds_52 {σ : zM} {m : Nat} (h : tOK m σ) {V : zW} : tR (tfi σ m) (f_X9_binds_52  (tw σ m V)) (t_X9_binds_52  V) := by
  unfold f_X9_binds_52 t_X9_binds_52
  exact (e_X9_binds_57 h)
noncomputable def t_X9_binds (x0 : Int) (V : zW) : Option (Int × zW) :=
  if x0 ≠ 16 then
    if x0 ≠ 11 then
      if x0 ≠ 10 then
        if x0 ≠ 9 then
          if x0 = 12 then
            t_X9_binds_52 V
          else
            if x0 ≠ 13 then
              t_X9_binds_57 5 V
            else
              t_X9_binds_52 V
        else
          t_X9_binds_57 3 V
      else
        t_X9_binds_57 2 V
    else
      t_X9_binds_57 1 V
  else
    t_X9_binds_57 0 V
theorem e_X9_binds {σ : zM} {m : Nat} (h : tOK m σ) {x0 : Int} {V : zW} : tR (tfi σ m) (f_X9_binds x0 (tw σ m V)) (t_X9_binds x0 V) := by
  unfold f_X9_binds t_X9_binds
  refine te_if ?_ ?_
  · refine te_if ?_ ?_
    · refine te_if ?_ ?_
      · refine te_if ?_ ?_
        · refine te_if ?_ ?_
          · exact (e_X9_binds_52 h)
          · refine te_if ?_ ?_
            · exact (e_X9_binds_57 h)
            · exact (e_X9_binds_52 h)
        · exact (e_X9_binds_57 h)
      · exact (e_X9_binds_57 h)
    · exact (e_X9_binds_57 h)
  · exact (e_X9_binds_57 h)
noncomputable def t_X9_depth_48 (x1 : Int) (V : zW) : Option (Int × zW) :=
  some (x1, V)
theorem e_X9_depth_48 {σ : zM} {m : Nat} (h : tOK m σ) {x1 : Int} {V : zW} : tR (tfi σ m) (f_X9_depth_48 x1 (tw σ m V)) (t_X9_depth_48 x1 V) := by
  unfold f_X9_depth_48 t_X9_depth_48
  exact te_some rfl
noncomputable def t_X9_depth_40 (x2 t0 t1 : Int) (V : zW) : Option ((Int × Int) ⊕ (Int × zW)) :=
  zlet ((zadd t1 t0)) fun y1 =>
  zlet (zadd x2 1) fun y2 =>
  some (.inl (y1, y2))
theorem e_X9_depth_40 {σ : zM} {m : Nat} (h : tOK m σ) {x2 t0 t1 : Int} {V : zW} : tR (Sum.map id (tfi σ m)) (f_X9_depth_40 (m : Int) x2 t0 t1 (tw σ m V)) (t_X9_depth_40 x2 t0 t1 V) := by
  unfold f_X9_depth_40 t_X9_depth_40
  refine te_let (fun y1 => ?_)
  refine te_let (fun y2 => ?_)
  exact te_some rfl
noncomputable def t_X9_depth_35 (x2 t0 : Int) (V : zW) : Option ((Int × Int) ⊕ (Int × zW)) :=
  t_X9_depth_40 x2 0 t0 V
theorem e_X9_depth_35 {σ : zM} {m : Nat} (h : tOK m σ) {x2 t0 : Int} {V : zW} : tR (Sum.map id (tfi σ m)) (f_X9_depth_35 (m : Int) x2 t0 (tw σ m V)) (t_X9_depth_35 x2 t0 V) := by
  unfold f_X9_depth_35 t_X9_depth_35
  exact (e_X9_depth_40 h)
noncomputable def t_X9_depth_4_b (x1 x2 : Int) (V : zW) : Option ((Int × Int) ⊕ (Int × zW)) :=
  zlet (V.1 942) fun v1 =>
  if v1 ≤ x2 then
    (t_X9_depth_48 x1 V).map (fun r => (.inr r))
  else
    (tga V 943 x2).bind fun v3 =>
    if v3 = 9 then
      t_X9_depth_35 x2 x1 V
    else
      (tga V 943 x2).bind fun v5 =>
      if v5 ≠ 10 then
        t_X9_depth_40 x2 1 x1 V
      else
        t_X9_depth_35 x2 x1 V
theorem e_X9_depth_4_b {σ : zM} {m : Nat} (h : tOK m σ) {x1 x2 : Int} {V : zW} : tR (Sum.map id (tfi σ m)) (f_X9_depth_4_b (m : Int) x1 x2 (tw σ m V)) (t_X9_depth_4_b x1 x2 V) := by
  unfold f_X9_depth_4_b t_X9_depth_4_b
  refine te_gs h rfl (fun v1 => ?_)
  refine te_if ?_ ?_
  · exact te_map (e_X9_depth_48 h) (fun r => rfl)
  · refine te_gr h (f := 943) rfl ?_
    refine te_ga h rfl (fun v3 => ?_)
    refine te_if ?_ ?_
    · exact (e_X9_depth_35 h)
    · refine te_gr h (f := 943) rfl ?_
      refine te_ga h rfl (fun v5 => ?_)
      refine te_if ?_ ?_
      · exact (e_X9_depth_40 h)
      · exact (e_X9_depth_35 h)
noncomputable def t_X9_depth_4 (x1 x2 : Int) (V : zW) : Option (Int × zW) :=
  zloop (fun s : Int × Int => t_X9_depth_4_b s.1 s.2 V) (x1, x2)
theorem e_X9_depth_4 {σ : zM} {m : Nat} (h : tOK m σ) {x1 x2 : Int} {V : zW} : tR (tfi σ m) (f_X9_depth_4 (m : Int) x1 x2 (tw σ m V)) (t_X9_depth_4 x1 x2 V) := by
  unfold f_X9_depth_4 t_X9_depth_4
  refine te_loop (φ := id) (s := (x1, x2)) (fun s => ?_)
  exact e_X9_depth_4_b h
noncomputable def t_X9_depth (V : zW) : Option (Int × zW) :=
  t_X9_depth_4 0 0 V
theorem e_X9_depth {σ : zM} {m : Nat} (h : tOK m σ) {V : zW} : tR (tfi σ m) (f_X9_depth (m : Int) (tw σ m V)) (t_X9_depth  V) := by
  unfold f_X9_depth t_X9_depth
  exact (e_X9_depth_4 h)
noncomputable def t_X9_push_72 (x1 t0 t1 : Int) (V : zW) : Option (Int × zW) :=
  twl (us V 965 (zadd t1 t0)) fun V1 =>
  zlet (V1.1 942) fun v3 =>
  (tpa V1 943 v3 x1).bind fun V4 =>
  zlet (V4.1 942) fun v5 =>
  twl (us V4 942 (zadd v5 1)) fun V6 =>
  zlet (V6.1 903) fun v7 =>
  twl (us V6 903 (zadd v7 1)) fun V8 =>
  zgd (z01 1) <|
  some (1, V8)
theorem e_X9_push_72 {σ : zM} {m : Nat} (h : tOK m σ) {x1 t0 t1 : Int} {V : zW} : tR (tfi σ m) (f_X9_push_72 (m : Int) x1 t0 t1 (m : Int) (tw σ m V)) (t_X9_push_72 x1 t0 t1 V) := by
  unfold f_X9_push_72 t_X9_push_72
  refine te_ps h rfl (fun V1 => ?_)
  refine te_gr h (f := 943) rfl ?_
  refine te_gs h rfl (fun v3 => ?_)
  refine te_pa h rfl (fun V4 => ?_)
  refine te_gs h rfl (fun v5 => ?_)
  refine te_ps h rfl (fun V6 => ?_)
  refine te_gs h rfl (fun v7 => ?_)
  refine te_ps h rfl (fun V8 => ?_)
  refine te_gd ?_
  exact te_some rfl
noncomputable def t_X9_push_71 (x1 t0 : Int) (V : zW) : Option (Int × zW) :=
  t_X9_push_72 x1 0 t0 V
theorem e_X9_push_71 {σ : zM} {m : Nat} (h : tOK m σ) {x1 t0 : Int} {V : zW} : tR (tfi σ m) (f_X9_push_71 (m : Int) x1 t0 (m : Int) (tw σ m V)) (t_X9_push_71 x1 t0 V) := by
  unfold f_X9_push_71 t_X9_push_71
  exact (e_X9_push_72 h)
noncomputable def t_X9_push_50 (x1 : Int) (V : zW) : Option (Int × zW) :=
  zlet (V.1 965) fun v1 =>
  if x1 < 12 then
    t_X9_push_71 x1 v1 V
  else
    if 15 < x1 then
      t_X9_push_71 x1 v1 V
    else
      t_X9_push_72 x1 1 v1 V
theorem e_X9_push_50 {σ : zM} {m : Nat} (h : tOK m σ) {x1 : Int} {V : zW} : tR (tfi σ m) (f_X9_push_50 (m : Int) x1 (tw σ m V)) (t_X9_push_50 x1 V) := by
  unfold f_X9_push_50 t_X9_push_50
  refine te_gs h rfl (fun v1 => ?_)
  refine te_if ?_ ?_
  · exact (e_X9_push_71 h)
  · refine te_if ?_ ?_
    · exact (e_X9_push_71 h)
    · exact (e_X9_push_72 h)
noncomputable def t_X9_push_45 (V : zW) : Option (Int × zW) :=
  tci (t_X9_fail V) fun v1 V2 =>
  zgd (z01 v1) <|
  some (v1, V2)
theorem e_X9_push_45 {σ : zM} {m : Nat} (h : tOK m σ) {V : zW} : tR (tfi σ m) (f_X9_push_45 (m : Int) (tw σ m V)) (t_X9_push_45  V) := by
  unfold f_X9_push_45 t_X9_push_45
  refine te_is h ?_
  refine te_ci (e_X9_fail h) (fun v1 V2 => ?_)
  refine te_gd ?_
  exact te_some rfl
noncomputable def t_X9_push_20 (x1 : Int) (V : zW) : Option (Int × zW) :=
  tci (t_X9_binds x1 V) fun v1 V2 =>
  if v1 = 2 then
    t_X9_push_50 x1 V2
  else
    tci (t_X9_binds x1 V2) fun v3 V4 =>
    if v3 = 3 then
      t_X9_push_50 x1 V4
    else
      tci (t_X9_depth V4) fun v5 V6 =>
      if v5 ≠ 8 then
        t_X9_push_50 x1 V6
      else
        t_X9_push_45 V6
theorem e_X9_push_20 {σ : zM} {m : Nat} (h : tOK m σ) {x1 : Int} {V : zW} : tR (tfi σ m) (f_X9_push_20 (m : Int) x1 (tw σ m V)) (t_X9_push_20 x1 V) := by
  unfold f_X9_push_20 t_X9_push_20
  refine te_ci (e_X9_binds h) (fun v1 V2 => ?_)
  refine te_if ?_ ?_
  · exact (e_X9_push_50 h)
  · refine te_ci (e_X9_binds h) (fun v3 V4 => ?_)
    refine te_if ?_ ?_
    · exact (e_X9_push_50 h)
    · refine te_is h ?_
      refine te_ci (e_X9_depth h) (fun v5 V6 => ?_)
      refine te_if ?_ ?_
      · exact (e_X9_push_50 h)
      · exact (e_X9_push_45 h)
noncomputable def t_X9_push (x1 : Int) (V : zW) : Option (Int × zW) :=
  if x1 < 12 then
    t_X9_push_20 x1 V
  else
    if 15 < x1 then
      t_X9_push_20 x1 V
    else
      zlet (V.1 965) fun v1 =>
      if v1 = 3 then
        t_X9_push_45 V
      else
        t_X9_push_20 x1 V
theorem e_X9_push {σ : zM} {m : Nat} (h : tOK m σ) {x1 : Int} {V : zW} : tR (tfi σ m) (f_X9_push (m : Int) x1 (tw σ m V)) (t_X9_push x1 V) := by
  unfold f_X9_push t_X9_push
  refine te_if ?_ ?_
  · exact (e_X9_push_20 h)
  · refine te_if ?_ ?_
    · exact (e_X9_push_20 h)
    · refine te_gs h rfl (fun v1 => ?_)
      refine te_if ?_ ?_
      · exact (e_X9_push_45 h)
      · exact (e_X9_push_20 h)
noncomputable def t_X9_put_35 (x1 : Int) (V : zW) : Option zW :=
  zlet (V.1 962) fun v2 =>
  (tpa V 963 v2 x1).bind fun V3 =>
  zlet (V3.1 962) fun v4 =>
  twl (us V3 962 (zadd v4 1)) fun V5 =>
  some V5
theorem e_X9_put_35 {σ : zM} {m : Nat} (h : tOK m σ) {x1 : Int} {V : zW} : tR (tfv σ m) (f_X9_put_35 (m : Int) x1 (tw σ m V)) (t_X9_put_35 x1 V) := by
  unfold f_X9_put_35 t_X9_put_35
  refine te_gr h (f := 963) rfl ?_
  refine te_gs h rfl (fun v2 => ?_)
  refine te_pa h rfl (fun V3 => ?_)
  refine te_gs h rfl (fun v4 => ?_)
  refine te_ps h rfl (fun V5 => ?_)
  exact te_some rfl
noncomputable def t_X9_put (x1 : Int) (V : zW) : Option zW :=
  if x1 < 12 then
    t_X9_put_35 x1 V
  else
    if 15 < x1 then
      t_X9_put_35 x1 V
    else
      zlet (V.1 964) fun v2 =>
      zlet (V.1 962) fun v3 =>
      (tpa V 968 v2 v3).bind fun V4 =>
      zlet (V4.1 964) fun v5 =>
      twl (us V4 964 (zadd v5 1)) fun V6 =>
      t_X9_put_35 x1 V6
theorem e_X9_put {σ : zM} {m : Nat} (h : tOK m σ) {x1 : Int} {V : zW} : tR (tfv σ m) (f_X9_put (m : Int) x1 (tw σ m V)) (t_X9_put x1 V) := by
  unfold f_X9_put t_X9_put
  refine te_if ?_ ?_
  · exact (e_X9_put_35 h)
  · refine te_if ?_ ?_
    · exact (e_X9_put_35 h)
    · refine te_gr h (f := 968) rfl ?_
      refine te_gs h rfl (fun v2 => ?_)
      refine te_gs h rfl (fun v3 => ?_)
      refine te_pa h rfl (fun V4 => ?_)
      refine te_gs h rfl (fun v5 => ?_)
      refine te_ps h rfl (fun V6 => ?_)
      exact (e_X9_put_35 h)
noncomputable def t_X9_atom_220 (V : zW) : Option (Int × zW) :=
  tci (t_X9_fail V) fun v1 V2 =>
  zgd (z01 v1) <|
  some (v1, V2)
theorem e_X9_atom_220 {σ : zM} {m : Nat} (h : tOK m σ) {V : zW} : tR (tfi σ m) (f_X9_atom_220 (m : Int) (tw σ m V)) (t_X9_atom_220  V) := by
  unfold f_X9_atom_220 t_X9_atom_220
  refine te_is h ?_
  refine te_ci (e_X9_fail h) (fun v1 V2 => ?_)
  refine te_gd ?_
  exact te_some rfl
noncomputable def t_X9_atom_274 (V : zW) : Option (Int × zW) :=
  zlet (V.1 969) fun v1 =>
  tcv (t_X9_put v1 V) fun V2 =>
  zlet (V2.1 969) fun v3 =>
  twl (us V2 969 (zadd v3 1)) fun V4 =>
  zgd (z01 1) <|
  some (1, V4)
theorem e_X9_atom_274 {σ : zM} {m : Nat} (h : tOK m σ) {V : zW} : tR (tfi σ m) (f_X9_atom_274 (m : Int) (tw σ m V)) (t_X9_atom_274  V) := by
  unfold f_X9_atom_274 t_X9_atom_274
  refine te_gs h rfl (fun v1 => ?_)
  refine te_is h ?_
  refine te_cv (e_X9_put h) (fun V2 => ?_)
  refine te_gs h rfl (fun v3 => ?_)
  refine te_ps h rfl (fun V4 => ?_)
  refine te_gd ?_
  exact te_some rfl
noncomputable def t_X9_atom_148 (V : zW) : Option (Int × zW) :=
  zgd (z01 0) <|
  some (0, V)
theorem e_X9_atom_148 {σ : zM} {m : Nat} (h : tOK m σ) {V : zW} : tR (tfi σ m) (f_X9_atom_148  (tw σ m V)) (t_X9_atom_148  V) := by
  unfold f_X9_atom_148 t_X9_atom_148
  refine te_gd ?_
  exact te_some rfl
noncomputable def t_X9_atom_117 (x1 x2 : Int) (V : zW) : Option (Int × zW) :=
  twl (us V 942 x1) fun V1 =>
  zlet (V1.1 969) fun v3 =>
  zlet (V1.1 936) fun v4 =>
  (tpa V1 973 v3 v4).bind fun V5 =>
  if x2 = 0 then
    t_X9_atom_148 V5
  else
    tci (t_X9_takes 125 V5) fun v6 V7 =>
    if v6 ≠ 0 then
      t_X9_atom_274 V7
    else
      t_X9_atom_148 V7
theorem e_X9_atom_117 {σ : zM} {m : Nat} (h : tOK m σ) {x1 x2 : Int} {V : zW} : tR (tfi σ m) (f_X9_atom_117 (m : Int) x1 x2 (tw σ m V)) (t_X9_atom_117 x1 x2 V) := by
  unfold f_X9_atom_117 t_X9_atom_117
  refine te_ps h rfl (fun V1 => ?_)
  refine te_gr h (f := 973) rfl ?_
  refine te_gs h rfl (fun v3 => ?_)
  refine te_gs h rfl (fun v4 => ?_)
  refine te_pa h rfl (fun V5 => ?_)
  refine te_if ?_ ?_
  · exact (e_X9_atom_148 h)
  · refine te_is h ?_
    refine te_ci (e_X9_takes h) (fun v6 V7 => ?_)
    refine te_if ?_ ?_
    · exact (e_X9_atom_274 h)
    · exact (e_X9_atom_148 h)
noncomputable def t_X9_atom_94_b (x1 x2 x3 : Int) (V : zW) : Option ((Int × zW) ⊕ (Int × zW)) :=
  if x1 ≤ x3 then
    (t_X9_atom_117 x1 x2 V).map (fun r => (.inr r))
  else
    (tga V 966 x3).bind fun v3 =>
    (tpa V 943 x3 v3).bind fun V4 =>
    zlet (zadd x3 1) fun y5 =>
    some (.inl (y5, V4))
theorem e_X9_atom_94_b {σ : zM} {m : Nat} (h : tOK m σ) {x1 x2 x3 : Int} {V : zW} : tR (Sum.map (fun s => (s.1, tw σ m s.2)) (tfi σ m)) (f_X9_atom_94_b (m : Int) x1 x2 x3 (tw σ m V)) (t_X9_atom_94_b x1 x2 x3 V) := by
  unfold f_X9_atom_94_b t_X9_atom_94_b
  refine te_if ?_ ?_
  · exact te_map (e_X9_atom_117 h) (fun r => rfl)
  · refine te_gr h (f := 943) rfl ?_
    refine te_gr h (f := 966) rfl ?_
    refine te_ga h rfl (fun v3 => ?_)
    refine te_pa h rfl (fun V4 => ?_)
    refine te_let (fun y5 => ?_)
    exact te_some rfl
noncomputable def t_X9_atom_94 (x1 x2 x3 : Int) (V : zW) : Option (Int × zW) :=
  zloop (fun s : Int × zW => t_X9_atom_94_b x1 x2 s.1 s.2) (x3, V)
theorem e_X9_atom_94 {σ : zM} {m : Nat} (h : tOK m σ) {x1 x2 x3 : Int} {V : zW} : tR (tfi σ m) (f_X9_atom_94 (m : Int) x1 x2 x3 (tw σ m V)) (t_X9_atom_94 x1 x2 x3 V) := by
  unfold f_X9_atom_94 t_X9_atom_94
  refine te_loop (φ := (fun s => (s.1, tw σ m s.2))) (s := (x3, V)) (fun s => ?_)
  exact e_X9_atom_94_b h
noncomputable def t_X9_atom_86 (x1 : Int) (V : zW) : Option (Int × zW) :=
  tci (t_X9_expression 0 V) fun v1 V2 =>
  t_X9_atom_94 x1 v1 0 V2
theorem e_X9_atom_86 {σ : zM} {m : Nat} (h : tOK m σ) {x1 : Int} {V : zW} : tR (tfi σ m) (f_X9_atom_86 (m : Int) x1 (tw σ m V)) (t_X9_atom_86 x1 V) := by
  unfold f_X9_atom_86 t_X9_atom_86
  refine te_is h ?_
  refine te_ci (e_X9_expression h) (fun v1 V2 => ?_)
  exact (e_X9_atom_94 h)
noncomputable def t_X9_atom_63_b (x1 x2 : Int) (V : zW) : Option ((Int × zW) ⊕ (Int × zW)) :=
  if x1 ≤ x2 then
    (t_X9_atom_86 x1 V).map (fun r => (.inr r))
  else
    (tga V 943 x2).bind fun v3 =>
    (tpa V 966 x2 v3).bind fun V4 =>
    zlet (zadd x2 1) fun y5 =>
    some (.inl (y5, V4))
theorem e_X9_atom_63_b {σ : zM} {m : Nat} (h : tOK m σ) {x1 x2 : Int} {V : zW} : tR (Sum.map (fun s => (s.1, tw σ m s.2)) (tfi σ m)) (f_X9_atom_63_b (m : Int) x1 x2 (tw σ m V)) (t_X9_atom_63_b x1 x2 V) := by
  unfold f_X9_atom_63_b t_X9_atom_63_b
  refine te_if ?_ ?_
  · exact te_map (e_X9_atom_86 h) (fun r => rfl)
  · refine te_gr h (f := 966) rfl ?_
    refine te_gr h (f := 943) rfl ?_
    refine te_ga h rfl (fun v3 => ?_)
    refine te_pa h rfl (fun V4 => ?_)
    refine te_let (fun y5 => ?_)
    exact te_some rfl
noncomputable def t_X9_atom_63 (x1 x2 : Int) (V : zW) : Option (Int × zW) :=
  zloop (fun s : Int × zW => t_X9_atom_63_b x1 s.1 s.2) (x2, V)
theorem e_X9_atom_63 {σ : zM} {m : Nat} (h : tOK m σ) {x1 x2 : Int} {V : zW} : tR (tfi σ m) (f_X9_atom_63 (m : Int) x1 x2 (tw σ m V)) (t_X9_atom_63 x1 x2 V) := by
  unfold f_X9_atom_63 t_X9_atom_63
  refine te_loop (φ := (fun s => (s.1, tw σ m s.2))) (s := (x2, V)) (fun s => ?_)
  exact e_X9_atom_63_b h
noncomputable def t_X9_atom (V : zW) : Option (Int × zW) :=
  zlet (V.1 969) fun v1 =>
  if v1 ≠ 8 then
    tci (t_X9_here V) fun v2 V3 =>
    if v2 ≠ 123 then
      zlet (V3.1 903) fun v4 =>
      twl (us V3 903 (zadd v4 1)) fun V5 =>
      zlet (V5.1 930) fun v6 =>
      tci (t_X9_from 48 v6 V5) fun v7 V8 =>
      if 0 ≤ v7 then
        zlet (V8.1 903) fun v9 =>
        twl (us V8 903 (zadd v9 1)) fun V10 =>
        tci (t_X9_from 65 8 V10) fun v11 V12 =>
        if v11 < 0 then
          t_X9_atom_220 V12
        else
          (tga V12 933 (zadd (zmul 8 v7) v11)).bind fun v14 =>
          if 0 ≤ v14 then
            zlet (V12.1 969) fun v16 =>
            (tpa V12 970 v16 v7).bind fun V17 =>
            zlet (V17.1 969) fun v19 =>
            (tga V17 933 (zadd (zmul 8 v7) v11)).bind fun v21 =>
            tci (t_X9_instead v21 V17) fun v22 V23 =>
            tci (t_X9_pointOf v7 v22 V23) fun v24 V25 =>
            (tpa V25 971 v19 v24).bind fun V26 =>
            zlet (V26.1 903) fun v27 =>
            twl (us V26 903 (zadd v27 1)) fun V28 =>
            t_X9_atom_274 V28
          else
            t_X9_atom_220 V12
      else
        tci (t_X9_fail V8) fun v29 V30 =>
        zgd (z01 v29) <|
        some (v29, V30)
    else
      zlet (V3.1 903) fun v31 =>
      twl (us V3 903 (zadd v31 1)) fun V32 =>
      zlet (V32.1 942) fun v33 =>
      zlet (V32.1 969) fun v35 =>
      (tpa V32 970 v35 (-1)).bind fun V36 =>
      zlet (V36.1 969) fun v38 =>
      zlet (V36.1 936) fun v39 =>
      (tpa V36 972 v38 v39).bind fun V40 =>
      t_X9_atom_63 v33 0 V40
  else
    tci (t_X9_fail V) fun v41 V42 =>
    zgd (z01 v41) <|
    some (v41, V42)
theorem e_X9_atom {σ : zM} {m : Nat} (h : tOK m σ) {V : zW} : tR (tfi σ m) (f_X9_atom (m : Int) (tw σ m V)) (t_X9_atom  V) := by
  unfold f_X9_atom t_X9_atom
  refine te_gs h rfl (fun v1 => ?_)
  refine te_if ?_ ?_
  · refine te_is h ?_
    refine te_ci (e_X9_here h) (fun v2 V3 => ?_)
    refine te_if ?_ ?_
    · refine te_gs h rfl (fun v4 => ?_)
      refine te_ps h rfl (fun V5 => ?_)
      refine te_gs h rfl (fun v6 => ?_)
      refine te_is h ?_
      refine te_ci (e_X9_from h) (fun v7 V8 => ?_)
      refine te_if ?_ ?_
      · refine te_gs h rfl (fun v9 => ?_)
        refine te_ps h rfl (fun V10 => ?_)
        refine te_is h ?_
        refine te_ci (e_X9_from h) (fun v11 V12 => ?_)
        refine te_if ?_ ?_
        · exact (e_X9_atom_220 h)
        · refine te_gr h (f := 933) rfl ?_
          refine te_ga h rfl (fun v14 => ?_)
          refine te_if ?_ ?_
          · refine te_gr h (f := 970) rfl ?_
            refine te_gs h rfl (fun v16 => ?_)
            refine te_pa h rfl (fun V17 => ?_)
            refine te_gr h (f := 971) rfl ?_
            refine te_gs h rfl (fun v19 => ?_)
            refine te_gr h (f := 933) rfl ?_
            refine te_ga h rfl (fun v21 => ?_)
            refine te_is h ?_
            refine te_ci (e_X9_instead h) (fun v22 V23 => ?_)
            refine te_is h ?_
            refine te_ci (e_X9_pointOf h) (fun v24 V25 => ?_)
            refine te_pa h rfl (fun V26 => ?_)
            refine te_gs h rfl (fun v27 => ?_)
            refine te_ps h rfl (fun V28 => ?_)
            exact (e_X9_atom_274 h)
          · exact (e_X9_atom_220 h)
      · refine te_is h ?_
        refine te_ci (e_X9_fail h) (fun v29 V30 => ?_)
        refine te_gd ?_
        exact te_some rfl
    · refine te_gs h rfl (fun v31 => ?_)
      refine te_ps h rfl (fun V32 => ?_)
      refine te_gs h rfl (fun v33 => ?_)
      refine te_gr h (f := 970) rfl ?_
      refine te_gs h rfl (fun v35 => ?_)
      refine te_pa h rfl (fun V36 => ?_)
      refine te_gr h (f := 972) rfl ?_
      refine te_gs h rfl (fun v38 => ?_)
      refine te_gs h rfl (fun v39 => ?_)
      refine te_pa h rfl (fun V40 => ?_)
      exact (e_X9_atom_63 h)
  · refine te_is h ?_
    refine te_ci (e_X9_fail h) (fun v41 V42 => ?_)
    refine te_gd ?_
    exact te_some rfl
noncomputable def t_X9_putAll_51 (V : zW) : Option zW :=
  some V
theorem e_X9_putAll_51 {σ : zM} {m : Nat} (h : tOK m σ) {V : zW} : tR (tfv σ m) (f_X9_putAll_51  (tw σ m V)) (t_X9_putAll_51  V) := by
  unfold f_X9_putAll_51 t_X9_putAll_51
  exact te_some rfl
noncomputable def t_X9_putAll_0_b (x1 : Int) (V : zW) : Option ((zW) ⊕ zW) :=
  zlet (V.1 942) fun v1 =>
  if v1 ≤ 0 then
    (t_X9_putAll_51 V).map (fun r => (.inr r))
  else
    zlet (V.1 942) fun v3 =>
    (tga V 943 (zsub v3 1)).bind fun v4 =>
    tci (t_X9_binds v4 V) fun v5 V6 =>
    if v5 < x1 then
      (t_X9_putAll_51 V6).map (fun r => (.inr r))
    else
      zlet (V6.1 942) fun v7 =>
      twl (us V6 942 (zsub v7 1)) fun V8 =>
      zlet (V8.1 942) fun v10 =>
      (tga V8 943 v10).bind fun v11 =>
      tcv (t_X9_put v11 V8) fun V12 =>
      some (.inl V12)
theorem e_X9_putAll_0_b {σ : zM} {m : Nat} (h : tOK m σ) {x1 : Int} {V : zW} : tR (Sum.map (tw σ m) (tfv σ m)) (f_X9_putAll_0_b (m : Int) x1 (tw σ m V)) (t_X9_putAll_0_b x1 V) := by
  unfold f_X9_putAll_0_b t_X9_putAll_0_b
  refine te_gs h rfl (fun v1 => ?_)
  refine te_if ?_ ?_
  · exact te_map (e_X9_putAll_51 h) (fun r => rfl)
  · refine te_gr h (f := 943) rfl ?_
    refine te_gs h rfl (fun v3 => ?_)
    refine te_ga h rfl (fun v4 => ?_)
    refine te_ci (e_X9_binds h) (fun v5 V6 => ?_)
    refine te_if ?_ ?_
    · exact te_map (e_X9_putAll_51 h) (fun r => rfl)
    · refine te_gs h rfl (fun v7 => ?_)
      refine te_ps h rfl (fun V8 => ?_)
      refine te_gr h (f := 943) rfl ?_
      refine te_gs h rfl (fun v10 => ?_)
      refine te_ga h rfl (fun v11 => ?_)
      refine te_is h ?_
      refine te_cv (e_X9_put h) (fun V12 => ?_)
      exact te_some rfl
noncomputable def t_X9_putAll_0 (x1 : Int) (V : zW) : Option zW :=
  zloop (fun s : zW => t_X9_putAll_0_b x1 s) V
theorem e_X9_putAll_0 {σ : zM} {m : Nat} (h : tOK m σ) {x1 : Int} {V : zW} : tR (tfv σ m) (f_X9_putAll_0 (m : Int) x1 (tw σ m V)) (t_X9_putAll_0 x1 V) := by
  unfold f_X9_putAll_0 t_X9_putAll_0
  refine te_loop (φ := (tw σ m)) (s := V) (fun s => ?_)
  exact e_X9_putAll_0_b h
noncomputable def t_X9_putAll (x1 : Int) (V : zW) : Option zW :=
  t_X9_putAll_0 x1 V
theorem e_X9_putAll {σ : zM} {m : Nat} (h : tOK m σ) {x1 : Int} {V : zW} : tR (tfv σ m) (f_X9_putAll (m : Int) x1 (tw σ m V)) (t_X9_putAll x1 V) := by
  unfold f_X9_putAll t_X9_putAll
  exact (e_X9_putAll_0 h)
noncomputable def t_X9_wholeFormula_349 (x1 x2 : Int) (V : zW) : Option ((Int × Int × zW) ⊕ (Int × zW)) :=
  some (.inl (x1, x2, V))
theorem e_X9_wholeFormula_349 {σ : zM} {m : Nat} (h : tOK m σ) {x1 x2 : Int} {V : zW} : tR (Sum.map (fun s => (s.1, s.2.1, tw σ m s.2.2)) (tfi σ m)) (f_X9_wholeFormula_349 (m : Int) x1 x2 (tw σ m V)) (t_X9_wholeFormula_349 x1 x2 V) := by
  unfold f_X9_wholeFormula_349 t_X9_wholeFormula_349
  exact te_some rfl
noncomputable def t_X9_wholeFormula_345 (V : zW) : Option (Int × zW) :=
  zgd (z01 0) <|
  some (0, V)
theorem e_X9_wholeFormula_345 {σ : zM} {m : Nat} (h : tOK m σ) {V : zW} : tR (tfi σ m) (f_X9_wholeFormula_345  (tw σ m V)) (t_X9_wholeFormula_345  V) := by
  unfold f_X9_wholeFormula_345 t_X9_wholeFormula_345
  refine te_gd ?_
  exact te_some rfl
noncomputable def t_X9_wholeFormula_336 (x1 x4 : Int) (V : zW) : Option ((Int × Int × zW) ⊕ (Int × zW)) :=
  tci (t_X9_push x4 V) fun v1 V2 =>
  if v1 ≠ 0 then
    t_X9_wholeFormula_349 x1 1 V2
  else
    (t_X9_wholeFormula_345 V2).map (fun r => (.inr r))
theorem e_X9_wholeFormula_336 {σ : zM} {m : Nat} (h : tOK m σ) {x1 x4 : Int} {V : zW} : tR (Sum.map (fun s => (s.1, s.2.1, tw σ m s.2.2)) (tfi σ m)) (f_X9_wholeFormula_336 (m : Int) x1 x4 (tw σ m V)) (t_X9_wholeFormula_336 x1 x4 V) := by
  unfold f_X9_wholeFormula_336 t_X9_wholeFormula_336
  refine te_is h ?_
  refine te_ci (e_X9_push h) (fun v1 V2 => ?_)
  refine te_if ?_ ?_
  · exact (e_X9_wholeFormula_349 h)
  · exact te_map (e_X9_wholeFormula_345 h) (fun r => rfl)
noncomputable def t_X9_wholeFormula_333 (x1 x4 t0 : Int) (V : zW) : Option ((Int × Int × zW) ⊕ (Int × zW)) :=
  tcv (t_X9_putAll t0 V) fun V1 =>
  t_X9_wholeFormula_336 x1 x4 V1
theorem e_X9_wholeFormula_333 {σ : zM} {m : Nat} (h : tOK m σ) {x1 x4 t0 : Int} {V : zW} : tR (Sum.map (fun s => (s.1, s.2.1, tw σ m s.2.2)) (tfi σ m)) (f_X9_wholeFormula_333 (m : Int) x1 x4 t0 (m : Int) (tw σ m V)) (t_X9_wholeFormula_333 x1 x4 t0 V) := by
  unfold f_X9_wholeFormula_333 t_X9_wholeFormula_333
  refine te_is h ?_
  refine te_cv (e_X9_putAll h) (fun V1 => ?_)
  exact (e_X9_wholeFormula_336 h)
noncomputable def t_X9_wholeFormula_302 (V : zW) : Option (Int × zW) :=
  tci (t_X9_fail V) fun v1 V2 =>
  zgd (z01 v1) <|
  some (v1, V2)
theorem e_X9_wholeFormula_302 {σ : zM} {m : Nat} (h : tOK m σ) {V : zW} : tR (tfi σ m) (f_X9_wholeFormula_302 (m : Int) (tw σ m V)) (t_X9_wholeFormula_302  V) := by
  unfold f_X9_wholeFormula_302 t_X9_wholeFormula_302
  refine te_is h ?_
  refine te_ci (e_X9_fail h) (fun v1 V2 => ?_)
  refine te_gd ?_
  exact te_some rfl
noncomputable def t_X9_wholeFormula_295 (x1 t0 : Int) (V : zW) : Option ((Int × Int × zW) ⊕ (Int × zW)) :=
  if 0 ≤ t0 then
    tci (t_X9_binds t0 V) fun v1 V2 =>
    if 4 ≤ v1 then
      t_X9_wholeFormula_336 x1 t0 V2
    else
      if t0 ≠ 11 then
        tci (t_X9_binds t0 V2) fun v3 V4 =>
        t_X9_wholeFormula_333 x1 t0 v3 V4
      else
        t_X9_wholeFormula_333 x1 t0 2 V2
  else
    (t_X9_wholeFormula_302 V).map (fun r => (.inr r))
theorem e_X9_wholeFormula_295 {σ : zM} {m : Nat} (h : tOK m σ) {x1 t0 : Int} {V : zW} : tR (Sum.map (fun s => (s.1, s.2.1, tw σ m s.2.2)) (tfi σ m)) (f_X9_wholeFormula_295 (m : Int) x1 t0 (tw σ m V)) (t_X9_wholeFormula_295 x1 t0 V) := by
  unfold f_X9_wholeFormula_295 t_X9_wholeFormula_295
  refine te_if ?_ ?_
  · refine te_ci (e_X9_binds h) (fun v1 V2 => ?_)
    refine te_if ?_ ?_
    · exact (e_X9_wholeFormula_336 h)
    · refine te_if ?_ ?_
      · refine te_ci (e_X9_binds h) (fun v3 V4 => ?_)
        exact (e_X9_wholeFormula_333 h)
      · exact (e_X9_wholeFormula_333 h)
  · exact te_map (e_X9_wholeFormula_302 h) (fun r => rfl)
noncomputable def t_X9_wholeFormula_198 (V : zW) : Option (Int × zW) :=
  tci (t_X9_fail V) fun v1 V2 =>
  zgd (z01 v1) <|
  some (v1, V2)
theorem e_X9_wholeFormula_198 {σ : zM} {m : Nat} (h : tOK m σ) {V : zW} : tR (tfi σ m) (f_X9_wholeFormula_198 (m : Int) (tw σ m V)) (t_X9_wholeFormula_198  V) := by
  unfold f_X9_wholeFormula_198 t_X9_wholeFormula_198
  refine te_is h ?_
  refine te_ci (e_X9_fail h) (fun v1 V2 => ?_)
  refine te_gd ?_
  exact te_some rfl

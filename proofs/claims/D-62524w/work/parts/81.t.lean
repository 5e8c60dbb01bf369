set_option maxRecDepth 100000
noncomputable def t_X9_thrown (V : zW) : Option (Int × zW) :=
  zlet (V.1 900) fun v1 =>
  some (v1, V)
theorem e_X9_thrown {σ : zM} {m : Nat} (h : tOK m σ) {V : zW} : tR (tfi σ m) (f_X9_thrown (m : Int) (tw σ m V)) (t_X9_thrown  V) := by
  unfold f_X9_thrown t_X9_thrown
  refine te_gs h rfl (fun v1 => ?_)
  exact te_some rfl
noncomputable def t_X9_in_15 (t0 : Int) (V : zW) : Option (Int × zW) :=
  zgd (z01 t0) <|
  some (t0, V)
theorem e_X9_in_15 {σ : zM} {m : Nat} (h : tOK m σ) {t0 : Int} {V : zW} : tR (tfi σ m) (f_X9_in_15 t0 (tw σ m V)) (t_X9_in_15 t0 V) := by
  unfold f_X9_in_15 t_X9_in_15
  refine te_gd ?_
  exact te_some rfl
noncomputable def t_X9_in_14 (V : zW) : Option (Int × zW) :=
  t_X9_in_15 0 V
theorem e_X9_in_14 {σ : zM} {m : Nat} (h : tOK m σ) {V : zW} : tR (tfi σ m) (f_X9_in_14  (tw σ m V)) (t_X9_in_14  V) := by
  unfold f_X9_in_14 t_X9_in_14
  exact (e_X9_in_15 h)
noncomputable def t_X9_in (x0 x1 x2 : Int) (V : zW) : Option (Int × zW) :=
  if x0 < x1 then
    t_X9_in_14 V
  else
    if x2 < x0 then
      t_X9_in_14 V
    else
      t_X9_in_15 1 V
theorem e_X9_in {σ : zM} {m : Nat} (h : tOK m σ) {x0 x1 x2 : Int} {V : zW} : tR (tfi σ m) (f_X9_in x0 x1 x2 (tw σ m V)) (t_X9_in x0 x1 x2 V) := by
  unfold f_X9_in t_X9_in
  refine te_if ?_ ?_
  · exact (e_X9_in_14 h)
  · refine te_if ?_ ?_
    · exact (e_X9_in_14 h)
    · exact (e_X9_in_15 h)
noncomputable def t_X9_write_131 (V : zW) : Option (Int × zW) :=
  zgd (z01 1) <|
  some (1, V)
theorem e_X9_write_131 {σ : zM} {m : Nat} (h : tOK m σ) {V : zW} : tR (tfi σ m) (f_X9_write_131  (tw σ m V)) (t_X9_write_131  V) := by
  unfold f_X9_write_131 t_X9_write_131
  refine te_gd ?_
  exact te_some rfl
noncomputable def t_X9_write_125 (x1 x4 : Int) (V : zW) : Option ((Int × zW) ⊕ (Int × zW)) :=
  zlet (zadd x4 (-8)) fun y1 =>
  some (.inl (y1, V))
theorem e_X9_write_125 {σ : zM} {m : Nat} (h : tOK m σ) {x1 x4 : Int} {V : zW} : tR (Sum.map (fun s => (s.1, tw σ m s.2)) (tfi σ m)) (f_X9_write_125 (m : Int) x1 x4 (tw σ m V)) (t_X9_write_125 x1 x4 V) := by
  unfold f_X9_write_125 t_X9_write_125
  refine te_let (fun y1 => ?_)
  exact te_some rfl
noncomputable def t_X9_write_83_b (x1 x4 : Int) (V : zW) : Option ((Int × zW) ⊕ (Int × zW)) :=
  if x4 < 0 then
    (t_X9_write_131 V).map (fun r => (.inr r))
  else
    zlet ((zand (zl2i (jushr x1 x4)) 255)) fun y1 =>
    if y1 = 0 then
      t_X9_write_125 x1 x4 V
    else
      zlet (V.1 901) fun v3 =>
      (tpa V 902 v3 y1).bind fun V4 =>
      zlet (V4.1 901) fun v5 =>
      twl (us V4 901 (zadd v5 1)) fun V6 =>
      t_X9_write_125 x1 x4 V6
theorem e_X9_write_83_b {σ : zM} {m : Nat} (h : tOK m σ) {x1 x4 : Int} {V : zW} : tR (Sum.map (fun s => (s.1, tw σ m s.2)) (tfi σ m)) (f_X9_write_83_b (m : Int) x1 x4 (tw σ m V)) (t_X9_write_83_b x1 x4 V) := by
  unfold f_X9_write_83_b t_X9_write_83_b
  refine te_if ?_ ?_
  · exact te_map (e_X9_write_131 h) (fun r => rfl)
  · refine te_let (fun y1 => ?_)
    refine te_if ?_ ?_
    · exact (e_X9_write_125 h)
    · refine te_gr h (f := 902) rfl ?_
      refine te_gs h rfl (fun v3 => ?_)
      refine te_pa h rfl (fun V4 => ?_)
      refine te_gs h rfl (fun v5 => ?_)
      refine te_ps h rfl (fun V6 => ?_)
      exact (e_X9_write_125 h)
noncomputable def t_X9_write_83 (x1 x4 : Int) (V : zW) : Option (Int × zW) :=
  zloop (fun s : Int × zW => t_X9_write_83_b x1 s.1 s.2) (x4, V)
theorem e_X9_write_83 {σ : zM} {m : Nat} (h : tOK m σ) {x1 x4 : Int} {V : zW} : tR (tfi σ m) (f_X9_write_83 (m : Int) x1 x4 (tw σ m V)) (t_X9_write_83 x1 x4 V) := by
  unfold f_X9_write_83 t_X9_write_83
  refine te_loop (φ := (fun s => (s.1, tw σ m s.2))) (s := (x4, V)) (fun s => ?_)
  exact e_X9_write_83_b h
noncomputable def t_X9_write_65 (x1 x3 : Int) (V : zW) : Option (Int × zW) :=
  zlet (V.1 901) fun v1 =>
  if (zadd v1 x3) ≤ 240 then
    t_X9_write_83 x1 56 V
  else
    zgd (z01 0) <|
    some (0, V)
theorem e_X9_write_65 {σ : zM} {m : Nat} (h : tOK m σ) {x1 x3 : Int} {V : zW} : tR (tfi σ m) (f_X9_write_65 (m : Int) x1 x3 (tw σ m V)) (t_X9_write_65 x1 x3 V) := by
  unfold f_X9_write_65 t_X9_write_65
  refine te_gs h rfl (fun v1 => ?_)
  refine te_if ?_ ?_
  · exact (e_X9_write_83 h)
  · refine te_gd ?_
    exact te_some rfl
noncomputable def t_X9_write_57 (x1 x4 t0 t1 : Int) (V : zW) : Option ((Int × Int × zW) ⊕ (Int × zW)) :=
  zlet ((zadd t1 t0)) fun y1 =>
  zlet (zadd x4 (-8)) fun y2 =>
  some (.inl (y1, y2, V))
theorem e_X9_write_57 {σ : zM} {m : Nat} (h : tOK m σ) {x1 x4 t0 t1 : Int} {V : zW} : tR (Sum.map (fun s => (s.1, s.2.1, tw σ m s.2.2)) (tfi σ m)) (f_X9_write_57 (m : Int) x1 x4 t0 t1 (tw σ m V)) (t_X9_write_57 x1 x4 t0 t1 V) := by
  unfold f_X9_write_57 t_X9_write_57
  refine te_let (fun y1 => ?_)
  refine te_let (fun y2 => ?_)
  exact te_some rfl
noncomputable def t_X9_write_46 (x1 x3 x4 x5 : Int) (V : zW) : Option ((Int × Int × zW) ⊕ (Int × zW)) :=
  if x5 = 0 then
    t_X9_write_57 x1 x4 0 x3 V
  else
    t_X9_write_57 x1 x4 1 x3 V
theorem e_X9_write_46 {σ : zM} {m : Nat} (h : tOK m σ) {x1 x3 x4 x5 : Int} {V : zW} : tR (Sum.map (fun s => (s.1, s.2.1, tw σ m s.2.2)) (tfi σ m)) (f_X9_write_46 (m : Int) x1 x3 x4 x5 (tw σ m V)) (t_X9_write_46 x1 x3 x4 x5 V) := by
  unfold f_X9_write_46 t_X9_write_46
  refine te_if ?_ ?_
  · exact (e_X9_write_57 h)
  · exact (e_X9_write_57 h)
noncomputable def t_X9_write_44 (V : zW) : Option (Int × zW) :=
  zgd (z01 0) <|
  some (0, V)
theorem e_X9_write_44 {σ : zM} {m : Nat} (h : tOK m σ) {V : zW} : tR (tfi σ m) (f_X9_write_44  (tw σ m V)) (t_X9_write_44  V) := by
  unfold f_X9_write_44 t_X9_write_44
  refine te_gd ?_
  exact te_some rfl
noncomputable def t_X9_write_11_b (x1 x3 x4 : Int) (V : zW) : Option ((Int × Int × zW) ⊕ (Int × zW)) :=
  if x4 < 0 then
    (t_X9_write_65 x1 x3 V).map (fun r => (.inr r))
  else
    zlet ((zand (zl2i (jushr x1 x4)) 255)) fun y1 =>
    if y1 = 0 then
      t_X9_write_46 x1 x3 x4 y1 V
    else
      tci (t_X9_in y1 33 126 V) fun v2 V3 =>
      if v2 ≠ 0 then
        t_X9_write_46 x1 x3 x4 y1 V3
      else
        (t_X9_write_44 V3).map (fun r => (.inr r))
theorem e_X9_write_11_b {σ : zM} {m : Nat} (h : tOK m σ) {x1 x3 x4 : Int} {V : zW} : tR (Sum.map (fun s => (s.1, s.2.1, tw σ m s.2.2)) (tfi σ m)) (f_X9_write_11_b (m : Int) x1 x3 x4 (tw σ m V)) (t_X9_write_11_b x1 x3 x4 V) := by
  unfold f_X9_write_11_b t_X9_write_11_b
  refine te_if ?_ ?_
  · exact te_map (e_X9_write_65 h) (fun r => rfl)
  · refine te_let (fun y1 => ?_)
    refine te_if ?_ ?_
    · exact (e_X9_write_46 h)
    · refine te_ci (e_X9_in h) (fun v2 V3 => ?_)
      refine te_if ?_ ?_
      · exact (e_X9_write_46 h)
      · exact te_map (e_X9_write_44 h) (fun r => rfl)
noncomputable def t_X9_write_11 (x1 x3 x4 : Int) (V : zW) : Option (Int × zW) :=
  zloop (fun s : Int × Int × zW => t_X9_write_11_b x1 s.1 s.2.1 s.2.2) (x3, x4, V)
theorem e_X9_write_11 {σ : zM} {m : Nat} (h : tOK m σ) {x1 x3 x4 : Int} {V : zW} : tR (tfi σ m) (f_X9_write_11 (m : Int) x1 x3 x4 (tw σ m V)) (t_X9_write_11 x1 x3 x4 V) := by
  unfold f_X9_write_11 t_X9_write_11
  refine te_loop (φ := (fun s => (s.1, s.2.1, tw σ m s.2.2))) (s := (x3, x4, V)) (fun s => ?_)
  exact e_X9_write_11_b h
noncomputable def t_X9_write (x1 : Int) (V : zW) : Option (Int × zW) :=
  twl (us V 900 0) fun V1 =>
  t_X9_write_11 x1 0 56 V1
theorem e_X9_write {σ : zM} {m : Nat} (h : tOK m σ) {x1 : Int} {V : zW} : tR (tfi σ m) (f_X9_write (m : Int) x1 (tw σ m V)) (t_X9_write x1 V) := by
  unfold f_X9_write t_X9_write
  refine te_ps h rfl (fun V1 => ?_)
  exact (e_X9_write_11 h)
noncomputable def t_X9_here_24 (t0 : Int) (V : zW) : Option (Int × zW) :=
  some (t0, V)
theorem e_X9_here_24 {σ : zM} {m : Nat} (h : tOK m σ) {t0 : Int} {V : zW} : tR (tfi σ m) (f_X9_here_24 t0 (tw σ m V)) (t_X9_here_24 t0 V) := by
  unfold f_X9_here_24 t_X9_here_24
  exact te_some rfl
noncomputable def t_X9_here (V : zW) : Option (Int × zW) :=
  zlet (V.1 903) fun v1 =>
  zlet (V.1 901) fun v2 =>
  if v2 ≤ v1 then
    t_X9_here_24 0 V
  else
    zlet (V.1 903) fun v4 =>
    (tga V 902 v4).bind fun v5 =>
    t_X9_here_24 v5 V
theorem e_X9_here {σ : zM} {m : Nat} (h : tOK m σ) {V : zW} : tR (tfi σ m) (f_X9_here (m : Int) (tw σ m V)) (t_X9_here  V) := by
  unfold f_X9_here t_X9_here
  refine te_gs h rfl (fun v1 => ?_)
  refine te_gs h rfl (fun v2 => ?_)
  refine te_if ?_ ?_
  · exact (e_X9_here_24 h)
  · refine te_gr h (f := 902) rfl ?_
    refine te_gs h rfl (fun v4 => ?_)
    refine te_ga h rfl (fun v5 => ?_)
    exact (e_X9_here_24 h)
noncomputable def t_X9_from_26 (t0 : Int) (V : zW) : Option (Int × zW) :=
  some (t0, V)
theorem e_X9_from_26 {σ : zM} {m : Nat} (h : tOK m σ) {t0 : Int} {V : zW} : tR (tfi σ m) (f_X9_from_26 t0 (tw σ m V)) (t_X9_from_26 t0 V) := by
  unfold f_X9_from_26 t_X9_from_26
  exact te_some rfl
noncomputable def t_X9_from (x1 x2 : Int) (V : zW) : Option (Int × zW) :=
  tci (t_X9_here V) fun v1 V2 =>
  tci (t_X9_in (zsub v1 x1) 0 (zsub x2 1) V2) fun v3 V4 =>
  if v3 = 0 then
    t_X9_from_26 (-1) V4
  else
    tci (t_X9_here V4) fun v5 V6 =>
    t_X9_from_26 (zsub v5 x1) V6
theorem e_X9_from {σ : zM} {m : Nat} (h : tOK m σ) {x1 x2 : Int} {V : zW} : tR (tfi σ m) (f_X9_from (m : Int) x1 x2 (tw σ m V)) (t_X9_from x1 x2 V) := by
  unfold f_X9_from t_X9_from
  refine te_is h ?_
  refine te_ci (e_X9_here h) (fun v1 V2 => ?_)
  refine te_ci (e_X9_in h) (fun v3 V4 => ?_)
  refine te_if ?_ ?_
  · exact (e_X9_from_26 h)
  · refine te_is h ?_
    refine te_ci (e_X9_here h) (fun v5 V6 => ?_)
    exact (e_X9_from_26 h)
noncomputable def t_X9_fail (V : zW) : Option (Int × zW) :=
  zlet (V.1 903) fun v1 =>
  twl (us V 904 v1) fun V2 =>
  zgd (z01 0) <|
  some (0, V2)
theorem e_X9_fail {σ : zM} {m : Nat} (h : tOK m σ) {V : zW} : tR (tfi σ m) (f_X9_fail (m : Int) (tw σ m V)) (t_X9_fail  V) := by
  unfold f_X9_fail t_X9_fail
  refine te_gs h rfl (fun v1 => ?_)
  refine te_ps h rfl (fun V2 => ?_)
  refine te_gd ?_
  exact te_some rfl
noncomputable def t_X9_takes (x1 : Int) (V : zW) : Option (Int × zW) :=
  tci (t_X9_here V) fun v1 V2 =>
  if v1 = x1 then
    zlet (V2.1 903) fun v3 =>
    twl (us V2 903 (zadd v3 1)) fun V4 =>
    zgd (z01 1) <|
    some (1, V4)
  else
    tci (t_X9_fail V2) fun v5 V6 =>
    zgd (z01 v5) <|
    some (v5, V6)
theorem e_X9_takes {σ : zM} {m : Nat} (h : tOK m σ) {x1 : Int} {V : zW} : tR (tfi σ m) (f_X9_takes (m : Int) x1 (tw σ m V)) (t_X9_takes x1 V) := by
  unfold f_X9_takes t_X9_takes
  refine te_is h ?_
  refine te_ci (e_X9_here h) (fun v1 V2 => ?_)
  refine te_if ?_ ?_
  · refine te_gs h rfl (fun v3 => ?_)
    refine te_ps h rfl (fun V4 => ?_)
    refine te_gd ?_
    exact te_some rfl
  · refine te_is h ?_
    refine te_ci (e_X9_fail h) (fun v5 V6 => ?_)
    refine te_gd ?_
    exact te_some rfl
noncomputable def t_X9_declaration_84 (V : zW) : Option (Int × zW) :=
  tci (t_X9_fail V) fun v1 V2 =>
  zgd (z01 v1) <|
  some (v1, V2)
theorem e_X9_declaration_84 {σ : zM} {m : Nat} (h : tOK m σ) {V : zW} : tR (tfi σ m) (f_X9_declaration_84 (m : Int) (tw σ m V)) (t_X9_declaration_84  V) := by
  unfold f_X9_declaration_84 t_X9_declaration_84
  refine te_is h ?_
  refine te_ci (e_X9_fail h) (fun v1 V2 => ?_)
  refine te_gd ?_
  exact te_some rfl
noncomputable def t_X9_declaration_259 (V : zW) : Option (Int × zW) :=
  tci (t_X9_takes 59 V) fun v1 V2 =>
  zgd (z01 v1) <|
  some (v1, V2)
theorem e_X9_declaration_259 {σ : zM} {m : Nat} (h : tOK m σ) {V : zW} : tR (tfi σ m) (f_X9_declaration_259 (m : Int) (tw σ m V)) (t_X9_declaration_259  V) := by
  unfold f_X9_declaration_259 t_X9_declaration_259
  refine te_is h ?_
  refine te_ci (e_X9_takes h) (fun v1 V2 => ?_)
  refine te_gd ?_
  exact te_some rfl
noncomputable def t_X9_declaration_249 (V : zW) : Option (Int × zW) :=
  zlet (V.1 907) fun v1 =>
  twl (us V 907 (zadd v1 1)) fun V2 =>
  t_X9_declaration_259 V2
theorem e_X9_declaration_249 {σ : zM} {m : Nat} (h : tOK m σ) {V : zW} : tR (tfi σ m) (f_X9_declaration_249 (m : Int) (tw σ m V)) (t_X9_declaration_249  V) := by
  unfold f_X9_declaration_249 t_X9_declaration_249
  refine te_gs h rfl (fun v1 => ?_)
  refine te_ps h rfl (fun V2 => ?_)
  exact (e_X9_declaration_259 h)
noncomputable def t_X9_declaration_89 (x1 x2 : Int) (V : zW) : Option (Int × zW) :=
  zlet (V.1 903) fun v1 =>
  twl (us V 903 (zadd v1 1)) fun V2 =>
  if x1 = 0 then
    zlet (V2.1 907) fun v4 =>
    (tpa V2 909 x2 v4).bind fun V5 =>
    zlet (V5.1 907) fun v7 =>
    (tpa V5 911 v7 0).bind fun V8 =>
    tci (t_X9_here V8) fun v9 V10 =>
    if v9 ≠ 61 then
      t_X9_declaration_249 V10
    else
      zlet (V10.1 903) fun v11 =>
      twl (us V10 903 (zadd v11 1)) fun V12 =>
      tci (t_X9_from 48 8 V12) fun v13 V14 =>
      if 0 ≤ v13 then
        zlet (V14.1 907) fun v16 =>
        tci (t_X9_from 48 8 V14) fun v17 V18 =>
        (tpa V18 911 v16 v17).bind fun V19 =>
        zlet (V19.1 903) fun v20 =>
        twl (us V19 903 (zadd v20 1)) fun V21 =>
        t_X9_declaration_249 V21
      else
        tci (t_X9_fail V14) fun v22 V23 =>
        zgd (z01 v22) <|
        some (v22, V23)
  else
    tci (t_X9_from 48 4 V2) fun v24 V25 =>
    if 0 ≤ v24 then
      zlet (V25.1 908) fun v27 =>
      (tpa V25 910 x2 v27).bind fun V28 =>
      zlet (V28.1 908) fun v30 =>
      tci (t_X9_from 48 4 V28) fun v31 V32 =>
      (tpa V32 912 v30 v31).bind fun V33 =>
      zlet (V33.1 908) fun v34 =>
      twl (us V33 908 (zadd v34 1)) fun V35 =>
      zlet (V35.1 903) fun v36 =>
      twl (us V35 903 (zadd v36 1)) fun V37 =>
      t_X9_declaration_259 V37
    else
      tci (t_X9_fail V25) fun v38 V39 =>
      zgd (z01 v38) <|
      some (v38, V39)
theorem e_X9_declaration_89 {σ : zM} {m : Nat} (h : tOK m σ) {x1 x2 : Int} {V : zW} : tR (tfi σ m) (f_X9_declaration_89 (m : Int) x1 x2 (tw σ m V)) (t_X9_declaration_89 x1 x2 V) := by
  unfold f_X9_declaration_89 t_X9_declaration_89
  refine te_gs h rfl (fun v1 => ?_)
  refine te_ps h rfl (fun V2 => ?_)
  refine te_if ?_ ?_
  · refine te_gr h (f := 909) rfl ?_
    refine te_gs h rfl (fun v4 => ?_)
    refine te_pa h rfl (fun V5 => ?_)
    refine te_gr h (f := 911) rfl ?_
    refine te_gs h rfl (fun v7 => ?_)
    refine te_pa h rfl (fun V8 => ?_)
    refine te_is h ?_
    refine te_ci (e_X9_here h) (fun v9 V10 => ?_)
    refine te_if ?_ ?_
    · exact (e_X9_declaration_249 h)
    · refine te_gs h rfl (fun v11 => ?_)
      refine te_ps h rfl (fun V12 => ?_)
      refine te_is h ?_
      refine te_ci (e_X9_from h) (fun v13 V14 => ?_)
      refine te_if ?_ ?_
      · refine te_gr h (f := 911) rfl ?_
        refine te_gs h rfl (fun v16 => ?_)
        refine te_is h ?_
        refine te_ci (e_X9_from h) (fun v17 V18 => ?_)
        refine te_pa h rfl (fun V19 => ?_)
        refine te_gs h rfl (fun v20 => ?_)
        refine te_ps h rfl (fun V21 => ?_)
        exact (e_X9_declaration_249 h)
      · refine te_is h ?_
        refine te_ci (e_X9_fail h) (fun v22 V23 => ?_)
        refine te_gd ?_
        exact te_some rfl
  · refine te_is h ?_
    refine te_ci (e_X9_from h) (fun v24 V25 => ?_)
    refine te_if ?_ ?_
    · refine te_gr h (f := 910) rfl ?_
      refine te_gs h rfl (fun v27 => ?_)
      refine te_pa h rfl (fun V28 => ?_)
      refine te_gr h (f := 912) rfl ?_
      refine te_gs h rfl (fun v30 => ?_)
      refine te_is h ?_
      refine te_ci (e_X9_from h) (fun v31 V32 => ?_)
      refine te_pa h rfl (fun V33 => ?_)
      refine te_gs h rfl (fun v34 => ?_)
      refine te_ps h rfl (fun V35 => ?_)
      refine te_gs h rfl (fun v36 => ?_)
      refine te_ps h rfl (fun V37 => ?_)
      exact (e_X9_declaration_259 h)
    · refine te_is h ?_
      refine te_ci (e_X9_fail h) (fun v38 V39 => ?_)
      refine te_gd ?_
      exact te_some rfl
noncomputable def t_X9_declaration_29 (x1 : Int) (V : zW) : Option (Int × zW) :=
  tci (t_X9_from 97 8 V) fun v1 V2 =>
  if v1 < 0 then
    t_X9_declaration_84 V2
  else
    (tga V2 909 v1).bind fun v4 =>
    if 0 ≤ v4 then
      t_X9_declaration_84 V2
    else
      (tga V2 910 v1).bind fun v6 =>
      if 0 ≤ v6 then
        t_X9_declaration_84 V2
      else
        if x1 = 0 then
          zlet (V2.1 907) fun v7 =>
          if v7 ≠ 6 then
            t_X9_declaration_89 x1 v1 V2
          else
            t_X9_declaration_84 V2
        else
          zlet (V2.1 908) fun v8 =>
          if v8 ≠ 2 then
            t_X9_declaration_89 x1 v1 V2
          else
            t_X9_declaration_84 V2
theorem e_X9_declaration_29 {σ : zM} {m : Nat} (h : tOK m σ) {x1 : Int} {V : zW} : tR (tfi σ m) (f_X9_declaration_29 (m : Int) x1 (tw σ m V)) (t_X9_declaration_29 x1 V) := by
  unfold f_X9_declaration_29 t_X9_declaration_29
  refine te_is h ?_
  refine te_ci (e_X9_from h) (fun v1 V2 => ?_)
  refine te_if ?_ ?_
  · exact (e_X9_declaration_84 h)
  · refine te_gr h (f := 909) rfl ?_
    refine te_ga h rfl (fun v4 => ?_)
    refine te_if ?_ ?_
    · exact (e_X9_declaration_84 h)
    · refine te_gr h (f := 910) rfl ?_
      refine te_ga h rfl (fun v6 => ?_)
      refine te_if ?_ ?_
      · exact (e_X9_declaration_84 h)
      · refine te_if ?_ ?_
        · refine te_gs h rfl (fun v7 => ?_)
          refine te_if ?_ ?_
          · exact (e_X9_declaration_89 h)
          · exact (e_X9_declaration_84 h)
        · refine te_gs h rfl (fun v8 => ?_)
          refine te_if ?_ ?_
          · exact (e_X9_declaration_89 h)
          · exact (e_X9_declaration_84 h)
noncomputable def t_X9_declaration_14 (t0 : Int) (V : zW) : Option (Int × zW) :=
  if t0 = 0 then
    t_X9_declaration_29 t0 V
  else
    zlet (V.1 903) fun v1 =>
    twl (us V 903 (zadd v1 1)) fun V2 =>
    t_X9_declaration_29 t0 V2
theorem e_X9_declaration_14 {σ : zM} {m : Nat} (h : tOK m σ) {t0 : Int} {V : zW} : tR (tfi σ m) (f_X9_declaration_14 (m : Int) t0 (tw σ m V)) (t_X9_declaration_14 t0 V) := by
  unfold f_X9_declaration_14 t_X9_declaration_14
  refine te_if ?_ ?_
  · exact (e_X9_declaration_29 h)
  · refine te_gs h rfl (fun v1 => ?_)
    refine te_ps h rfl (fun V2 => ?_)
    exact (e_X9_declaration_29 h)
noncomputable def t_X9_declaration (V : zW) : Option (Int × zW) :=
  tci (t_X9_here V) fun v1 V2 =>
  if v1 ≠ 35 then
    t_X9_declaration_14 0 V2
  else
    t_X9_declaration_14 1 V2
theorem e_X9_declaration {σ : zM} {m : Nat} (h : tOK m σ) {V : zW} : tR (tfi σ m) (f_X9_declaration (m : Int) (tw σ m V)) (t_X9_declaration  V) := by
  unfold f_X9_declaration t_X9_declaration
  refine te_is h ?_
  refine te_ci (e_X9_here h) (fun v1 V2 => ?_)
  refine te_if ?_ ?_
  · exact (e_X9_declaration_14 h)
  · exact (e_X9_declaration_14 h)
noncomputable def t_X9_label_40 (V : zW) : Option (Int × zW) :=
  tci (t_X9_fail V) fun v1 V2 =>
  zgd (z01 v1) <|
  some (v1, V2)
theorem e_X9_label_40 {σ : zM} {m : Nat} (h : tOK m σ) {V : zW} : tR (tfi σ m) (f_X9_label_40 (m : Int) (tw σ m V)) (t_X9_label_40  V) := by
  unfold f_X9_label_40 t_X9_label_40
  refine te_is h ?_
  refine te_ci (e_X9_fail h) (fun v1 V2 => ?_)
  refine te_gd ?_
  exact te_some rfl
noncomputable def t_X9_label (V : zW) : Option (Int × zW) :=
  zlet (V.1 903) fun v1 =>
  twl (us V 903 (zadd v1 1)) fun V2 =>
  tci (t_X9_from 65 8 V2) fun v3 V4 =>
  if v3 < 0 then
    t_X9_label_40 V4
  else
    zlet (V4.1 930) fun v6 =>
    (tga V4 933 (zadd (zmul 8 v6) v3)).bind fun v7 =>
    if v7 < 0 then
      zlet (V4.1 930) fun v9 =>
      zlet (V4.1 913) fun v10 =>
      (tpa V4 933 (zadd (zmul 8 v9) v3) v10).bind fun V11 =>
      zlet (V11.1 903) fun v12 =>
      twl (us V11 903 (zadd v12 1)) fun V13 =>
      zgd (z01 1) <|
      some (1, V13)
    else
      t_X9_label_40 V4
theorem e_X9_label {σ : zM} {m : Nat} (h : tOK m σ) {V : zW} : tR (tfi σ m) (f_X9_label (m : Int) (tw σ m V)) (t_X9_label  V) := by
  unfold f_X9_label t_X9_label
  refine te_gs h rfl (fun v1 => ?_)
  refine te_ps h rfl (fun V2 => ?_)
  refine te_is h ?_
  refine te_ci (e_X9_from h) (fun v3 V4 => ?_)
  refine te_if ?_ ?_
  · exact (e_X9_label_40 h)
  · refine te_gr h (f := 933) rfl ?_
    refine te_gs h rfl (fun v6 => ?_)
    refine te_ga h rfl (fun v7 => ?_)
    refine te_if ?_ ?_
    · refine te_gr h (f := 933) rfl ?_
      refine te_gs h rfl (fun v9 => ?_)
      refine te_gs h rfl (fun v10 => ?_)
      refine te_pa h rfl (fun V11 => ?_)
      refine te_gs h rfl (fun v12 => ?_)
      refine te_ps h rfl (fun V13 => ?_)
      refine te_gd ?_
      exact te_some rfl
    · exact (e_X9_label_40 h)
noncomputable def t_X9_node_258 (x2 : Int) (V : zW) : Option (Int × zW) :=
  some (x2, V)
theorem e_X9_node_258 {σ : zM} {m : Nat} (h : tOK m σ) {x2 : Int} {V : zW} : tR (tfi σ m) (f_X9_node_258 x2 (tw σ m V)) (t_X9_node_258 x2 V) := by
  unfold f_X9_node_258 t_X9_node_258
  exact te_some rfl
noncomputable def t_X9_node_223 (x1 x2 : Int) (V : zW) : Option (Int × zW) :=
  if 5 < x1 then
    t_X9_node_258 x2 V
  else
    zlet (V.1 927) fun v2 =>
    (tpa V 929 x2 v2).bind fun V3 =>
    zlet (V3.1 927) fun v5 =>
    (tpa V3 928 v5 x2).bind fun V6 =>
    zlet (V6.1 927) fun v7 =>
    twl (us V6 927 (zadd v7 1)) fun V8 =>
    t_X9_node_258 x2 V8
theorem e_X9_node_223 {σ : zM} {m : Nat} (h : tOK m σ) {x1 x2 : Int} {V : zW} : tR (tfi σ m) (f_X9_node_223 (m : Int) x1 x2 (tw σ m V)) (t_X9_node_223 x1 x2 V) := by
  unfold f_X9_node_223 t_X9_node_223
  refine te_if ?_ ?_
  · exact (e_X9_node_258 h)
  · refine te_gr h (f := 929) rfl ?_
    refine te_gs h rfl (fun v2 => ?_)
    refine te_pa h rfl (fun V3 => ?_)
    refine te_gr h (f := 928) rfl ?_
    refine te_gs h rfl (fun v5 => ?_)
    refine te_pa h rfl (fun V6 => ?_)
    refine te_gs h rfl (fun v7 => ?_)
    refine te_ps h rfl (fun V8 => ?_)
    exact (e_X9_node_258 h)
noncomputable def t_X9_node_159 (x1 x2 : Int) (V : zW) : Option (Int × zW) :=
  (tpa V 920 x2 (-1)).bind fun V2 =>
  if 7 < x1 then
    t_X9_node_223 x1 x2 V2
  else
    zlet (V2.1 930) fun v5 =>
    (tga V2 931 v5).bind fun v6 =>
    (tpa V2 920 x2 v6).bind fun V7 =>
    zlet (V7.1 930) fun v9 =>
    zlet (V7.1 930) fun v11 =>
    (tga V7 931 v11).bind fun v12 =>
    (tpa V7 934 (zadd (zmul 31 v9) v12) x2).bind fun V13 =>
    zlet (V13.1 930) fun v15 =>
    (tga V13 931 v15).bind fun v16 =>
    (tpa V13 931 v15 (zadd v16 1)).bind fun V17 =>
    t_X9_node_223 x1 x2 V17
theorem e_X9_node_159 {σ : zM} {m : Nat} (h : tOK m σ) {x1 x2 : Int} {V : zW} : tR (tfi σ m) (f_X9_node_159 (m : Int) x1 x2 (tw σ m V)) (t_X9_node_159 x1 x2 V) := by
  unfold f_X9_node_159 t_X9_node_159
  refine te_gr h (f := 920) rfl ?_
  refine te_pa h rfl (fun V2 => ?_)
  refine te_if ?_ ?_
  · exact (e_X9_node_223 h)
  · refine te_gr h (f := 920) rfl ?_
    refine te_gr h (f := 931) rfl ?_
    refine te_gs h rfl (fun v5 => ?_)
    refine te_ga h rfl (fun v6 => ?_)
    refine te_pa h rfl (fun V7 => ?_)
    refine te_gr h (f := 934) rfl ?_
    refine te_gs h rfl (fun v9 => ?_)
    refine te_gr h (f := 931) rfl ?_
    refine te_gs h rfl (fun v11 => ?_)
    refine te_ga h rfl (fun v12 => ?_)
    refine te_pa h rfl (fun V13 => ?_)
    refine te_gr h (f := 931) rfl ?_
    refine te_gs h rfl (fun v15 => ?_)
    refine te_ga h rfl (fun v16 => ?_)
    refine te_pa h rfl (fun V17 => ?_)
    exact (e_X9_node_223 h)
noncomputable def t_X9_node_153 (x1 x2 x3 : Int) (V : zW) : Option ((Int × zW) ⊕ (Int × zW)) :=
  zlet (zadd x3 1) fun y1 =>
  some (.inl (y1, V))
theorem e_X9_node_153 {σ : zM} {m : Nat} (h : tOK m σ) {x1 x2 x3 : Int} {V : zW} : tR (Sum.map (fun s => (s.1, tw σ m s.2)) (tfi σ m)) (f_X9_node_153 (m : Int) x1 x2 x3 (tw σ m V)) (t_X9_node_153 x1 x2 x3 V) := by
  unfold f_X9_node_153 t_X9_node_153
  refine te_let (fun y1 => ?_)
  exact te_some rfl
noncomputable def t_X9_node_123_b (x1 x2 x3 : Int) (V : zW) : Option ((Int × zW) ⊕ (Int × zW)) :=
  zlet (V.1 938) fun v1 =>
  if v1 < x3 then
    (t_X9_node_159 x1 x2 V).map (fun r => (.inr r))
  else
    (tga V 939 x3).bind fun v3 =>
    if v3 ≠ 3 then
      t_X9_node_153 x1 x2 x3 V
    else
      (tga V 940 x3).bind fun v6 =>
      (tpa V 919 x2 v6).bind fun V7 =>
      t_X9_node_153 x1 x2 x3 V7
theorem e_X9_node_123_b {σ : zM} {m : Nat} (h : tOK m σ) {x1 x2 x3 : Int} {V : zW} : tR (Sum.map (fun s => (s.1, tw σ m s.2)) (tfi σ m)) (f_X9_node_123_b (m : Int) x1 x2 x3 (tw σ m V)) (t_X9_node_123_b x1 x2 x3 V) := by
  unfold f_X9_node_123_b t_X9_node_123_b
  refine te_gs h rfl (fun v1 => ?_)
  refine te_if ?_ ?_
  · exact te_map (e_X9_node_159 h) (fun r => rfl)
  · refine te_gr h (f := 939) rfl ?_
    refine te_ga h rfl (fun v3 => ?_)
    refine te_if ?_ ?_
    · exact (e_X9_node_153 h)
    · refine te_gr h (f := 919) rfl ?_
      refine te_gr h (f := 940) rfl ?_
      refine te_ga h rfl (fun v6 => ?_)
      refine te_pa h rfl (fun V7 => ?_)
      exact (e_X9_node_153 h)
noncomputable def t_X9_node_123 (x1 x2 x3 : Int) (V : zW) : Option (Int × zW) :=
  zloop (fun s : Int × zW => t_X9_node_123_b x1 x2 s.1 s.2) (x3, V)
theorem e_X9_node_123 {σ : zM} {m : Nat} (h : tOK m σ) {x1 x2 x3 : Int} {V : zW} : tR (tfi σ m) (f_X9_node_123 (m : Int) x1 x2 x3 (tw σ m V)) (t_X9_node_123 x1 x2 x3 V) := by
  unfold f_X9_node_123 t_X9_node_123
  refine te_loop (φ := (fun s => (s.1, tw σ m s.2))) (s := (x3, V)) (fun s => ?_)
  exact e_X9_node_123_b h
noncomputable def t_X9_node_104 (x1 x2 : Int) (V : zW) : Option (Int × zW) :=
  zlet (V.1 938) fun v2 =>
  (tpa V 941 v2 x2).bind fun V3 =>
  (tpa V3 919 x2 (-1)).bind fun V5 =>
  t_X9_node_123 x1 x2 1 V5
theorem e_X9_node_104 {σ : zM} {m : Nat} (h : tOK m σ) {x1 x2 : Int} {V : zW} : tR (tfi σ m) (f_X9_node_104 (m : Int) x1 x2 (tw σ m V)) (t_X9_node_104 x1 x2 V) := by
  unfold f_X9_node_104 t_X9_node_104
  refine te_gr h (f := 941) rfl ?_
  refine te_gs h rfl (fun v2 => ?_)
  refine te_pa h rfl (fun V3 => ?_)
  refine te_gr h (f := 919) rfl ?_
  refine te_pa h rfl (fun V5 => ?_)
  exact (e_X9_node_123 h)
noncomputable def t_X9_node_76 (x1 x2 t0 t1 : Int) (V : zW) : Option (Int × zW) :=
  zgd (z01 t0) <|
  (tpa V 918 t1 t0).bind fun V1 =>
  zlet (V1.1 938) fun v3 =>
  (tga V1 941 v3).bind fun v4 =>
  if v4 < 0 then
    t_X9_node_104 x1 x2 V1
  else
    zlet (V1.1 938) fun v7 =>
    (tga V1 941 v7).bind fun v8 =>
    (tpa V1 917 v8 x2).bind fun V9 =>
    t_X9_node_104 x1 x2 V9
theorem e_X9_node_76 {σ : zM} {m : Nat} (h : tOK m σ) {x1 x2 t0 t1 : Int} {V : zW} : tR (tfi σ m) (f_X9_node_76 (m : Int) x1 x2 t0 t1 (tad m 918) (tw σ m V)) (t_X9_node_76 x1 x2 t0 t1 V) := by
  unfold f_X9_node_76 t_X9_node_76
  refine te_gd ?_
  refine te_pa h rfl (fun V1 => ?_)
  refine te_gr h (f := 941) rfl ?_
  refine te_gs h rfl (fun v3 => ?_)
  refine te_ga h rfl (fun v4 => ?_)
  refine te_if ?_ ?_
  · exact (e_X9_node_104 h)
  · refine te_gr h (f := 917) rfl ?_
    refine te_gr h (f := 941) rfl ?_
    refine te_gs h rfl (fun v7 => ?_)
    refine te_ga h rfl (fun v8 => ?_)
    refine te_pa h rfl (fun V9 => ?_)
    exact (e_X9_node_104 h)
noncomputable def t_X9_node (x1 : Int) (V : zW) : Option (Int × zW) :=
  zlet (V.1 913) fun v1 =>
  zlet (V.1 913) fun v2 =>
  twl (us V 913 (zadd v2 1)) fun V3 =>
  (tpa V3 914 v1 x1).bind fun V5 =>
  zlet (V5.1 930) fun v7 =>
  (tpa V5 915 v1 v7).bind fun V8 =>
  zlet (V8.1 938) fun v11 =>
  (tga V8 940 v11).bind fun v12 =>
  (tpa V8 916 v1 v12).bind fun V13 =>
  (tpa V13 917 v1 (-1)).bind fun V15 =>
  zlet (V15.1 938) fun v18 =>
  (tga V15 941 v18).bind fun v19 =>
  if 0 ≤ v19 then
    t_X9_node_76 x1 v1 0 v1 V15
  else
    t_X9_node_76 x1 v1 1 v1 V15
theorem e_X9_node {σ : zM} {m : Nat} (h : tOK m σ) {x1 : Int} {V : zW} : tR (tfi σ m) (f_X9_node (m : Int) x1 (tw σ m V)) (t_X9_node x1 V) := by
  unfold f_X9_node t_X9_node
  refine te_gs h rfl (fun v1 => ?_)
  refine te_gs h rfl (fun v2 => ?_)
  refine te_ps h rfl (fun V3 => ?_)
  refine te_gr h (f := 914) rfl ?_
  refine te_pa h rfl (fun V5 => ?_)
  refine te_gr h (f := 915) rfl ?_
  refine te_gs h rfl (fun v7 => ?_)
  refine te_pa h rfl (fun V8 => ?_)
  refine te_gr h (f := 916) rfl ?_
  refine te_gr h (f := 940) rfl ?_
  refine te_gs h rfl (fun v11 => ?_)
  refine te_ga h rfl (fun v12 => ?_)
  refine te_pa h rfl (fun V13 => ?_)
  refine te_gr h (f := 917) rfl ?_
  refine te_pa h rfl (fun V15 => ?_)
  refine te_gr h (f := 918) rfl ?_
  refine te_gr h (f := 941) rfl ?_
  refine te_gs h rfl (fun v18 => ?_)
  refine te_ga h rfl (fun v19 => ?_)
  refine te_if ?_ ?_
  · exact (e_X9_node_76 h)
  · exact (e_X9_node_76 h)
noncomputable def t_X9_enter (x1 x2 : Int) (V : zW) : Option zW :=
  zlet (V.1 938) fun v1 =>
  twl (us V 938 (zadd v1 1)) fun V2 =>
  zlet (V2.1 938) fun v4 =>
  (tpa V2 939 v4 x1).bind fun V5 =>
  zlet (V5.1 938) fun v7 =>
  (tpa V5 940 v7 x2).bind fun V8 =>
  zlet (V8.1 938) fun v10 =>
  (tpa V8 941 v10 (-1)).bind fun V11 =>
  zlet (V11.1 903) fun v12 =>
  twl (us V11 903 (zadd v12 1)) fun V13 =>
  some V13
theorem e_X9_enter {σ : zM} {m : Nat} (h : tOK m σ) {x1 x2 : Int} {V : zW} : tR (tfv σ m) (f_X9_enter (m : Int) x1 x2 (tw σ m V)) (t_X9_enter x1 x2 V) := by
  unfold f_X9_enter t_X9_enter
  refine te_gs h rfl (fun v1 => ?_)
  refine te_ps h rfl (fun V2 => ?_)
  refine te_gr h (f := 939) rfl ?_
  refine te_gs h rfl (fun v4 => ?_)
  refine te_pa h rfl (fun V5 => ?_)
  refine te_gr h (f := 940) rfl ?_
  refine te_gs h rfl (fun v7 => ?_)
  refine te_pa h rfl (fun V8 => ?_)
  refine te_gr h (f := 941) rfl ?_
  refine te_gs h rfl (fun v10 => ?_)
  refine te_pa h rfl (fun V11 => ?_)
  refine te_gs h rfl (fun v12 => ?_)
  refine te_ps h rfl (fun V13 => ?_)
  exact te_some rfl
noncomputable def t_X9_around_38 (x2 : Int) (V : zW) : Option (Int × zW) :=
  zgd (z01 x2) <|
  some (x2, V)
theorem e_X9_around_38 {σ : zM} {m : Nat} (h : tOK m σ) {x2 : Int} {V : zW} : tR (tfi σ m) (f_X9_around_38 x2 (tw σ m V)) (t_X9_around_38 x2 V) := by
  unfold f_X9_around_38 t_X9_around_38
  refine te_gd ?_
  exact te_some rfl
noncomputable def t_X9_around_31 (x1 x3 t0 : Int) (V : zW) : Option ((Int × Int) ⊕ (Int × zW)) :=
  zlet (zadd x3 1) fun y1 =>
  some (.inl (t0, y1))
theorem e_X9_around_31 {σ : zM} {m : Nat} (h : tOK m σ) {x1 x3 t0 : Int} {V : zW} : tR (Sum.map id (tfi σ m)) (f_X9_around_31 (m : Int) x1 x3 t0 (tw σ m V)) (t_X9_around_31 x1 x3 t0 V) := by
  unfold f_X9_around_31 t_X9_around_31
  refine te_let (fun y1 => ?_)
  exact te_some rfl
noncomputable def t_X9_around_26 (x1 x3 : Int) (V : zW) : Option ((Int × Int) ⊕ (Int × zW)) :=
  t_X9_around_31 x1 x3 1 V
theorem e_X9_around_26 {σ : zM} {m : Nat} (h : tOK m σ) {x1 x3 : Int} {V : zW} : tR (Sum.map id (tfi σ m)) (f_X9_around_26 (m : Int) x1 x3 (tw σ m V)) (t_X9_around_26 x1 x3 V) := by
  unfold f_X9_around_26 t_X9_around_26
  exact (e_X9_around_31 h)
noncomputable def t_X9_around_4_b (x1 x2 x3 : Int) (V : zW) : Option ((Int × Int) ⊕ (Int × zW)) :=
  zlet (V.1 938) fun v1 =>
  if v1 < x3 then
    (t_X9_around_38 x2 V).map (fun r => (.inr r))
  else
    if x2 ≠ 0 then
      t_X9_around_26 x1 x3 V
    else
      (tga V 939 x3).bind fun v3 =>
      if v3 ≠ x1 then
        t_X9_around_31 x1 x3 0 V
      else
        t_X9_around_26 x1 x3 V
theorem e_X9_around_4_b {σ : zM} {m : Nat} (h : tOK m σ) {x1 x2 x3 : Int} {V : zW} : tR (Sum.map id (tfi σ m)) (f_X9_around_4_b (m : Int) x1 x2 x3 (tw σ m V)) (t_X9_around_4_b x1 x2 x3 V) := by
  unfold f_X9_around_4_b t_X9_around_4_b
  refine te_gs h rfl (fun v1 => ?_)
  refine te_if ?_ ?_
  · exact te_map (e_X9_around_38 h) (fun r => rfl)
  · refine te_if ?_ ?_
    · exact (e_X9_around_26 h)
    · refine te_gr h (f := 939) rfl ?_
      refine te_ga h rfl (fun v3 => ?_)
      refine te_if ?_ ?_
      · exact (e_X9_around_31 h)
      · exact (e_X9_around_26 h)
noncomputable def t_X9_around_4 (x1 x2 x3 : Int) (V : zW) : Option (Int × zW) :=
  zloop (fun s : Int × Int => t_X9_around_4_b x1 s.1 s.2 V) (x2, x3)
theorem e_X9_around_4 {σ : zM} {m : Nat} (h : tOK m σ) {x1 x2 x3 : Int} {V : zW} : tR (tfi σ m) (f_X9_around_4 (m : Int) x1 x2 x3 (tw σ m V)) (t_X9_around_4 x1 x2 x3 V) := by
  unfold f_X9_around_4 t_X9_around_4
  refine te_loop (φ := id) (s := (x2, x3)) (fun s => ?_)
  exact e_X9_around_4_b h
noncomputable def t_X9_around (x1 : Int) (V : zW) : Option (Int × zW) :=
  t_X9_around_4 x1 0 1 V
theorem e_X9_around {σ : zM} {m : Nat} (h : tOK m σ) {x1 : Int} {V : zW} : tR (tfi σ m) (f_X9_around (m : Int) x1 (tw σ m V)) (t_X9_around x1 V) := by
  unfold f_X9_around t_X9_around
  exact (e_X9_around_4 h)
noncomputable def t_X9_emit (x1 : Int) (V : zW) : Option zW :=
  zlet (V.1 936) fun v2 =>
  (tpa V 937 v2 x1).bind fun V3 =>
  zlet (V3.1 936) fun v4 =>
  twl (us V3 936 (zadd v4 1)) fun V5 =>
  some V5
theorem e_X9_emit {σ : zM} {m : Nat} (h : tOK m σ) {x1 : Int} {V : zW} : tR (tfv σ m) (f_X9_emit (m : Int) x1 (tw σ m V)) (t_X9_emit x1 V) := by
  unfold f_X9_emit t_X9_emit
  refine te_gr h (f := 937) rfl ?_
  refine te_gs h rfl (fun v2 => ?_)
  refine te_pa h rfl (fun V3 => ?_)
  refine te_gs h rfl (fun v4 => ?_)
  refine te_ps h rfl (fun V5 => ?_)
  exact te_some rfl
noncomputable def t_X9_strength_43 (t0 : Int) (V : zW) : Option (Int × zW) :=
  some (t0, V)
theorem e_X9_strength_43 {σ : zM} {m : Nat} (h : tOK m σ) {t0 : Int} {V : zW} : tR (tfi σ m) (f_X9_strength_43 t0 (tw σ m V)) (t_X9_strength_43 t0 V) := by
  unfold f_X9_strength_43 t_X9_strength_43
  exact te_some rfl
noncomputable def t_X9_strength_22 (V : zW) : Option (Int × zW) :=
  t_X9_strength_43 2 V
theorem e_X9_strength_22 {σ : zM} {m : Nat} (h : tOK m σ) {V : zW} : tR (tfi σ m) (f_X9_strength_22  (tw σ m V)) (t_X9_strength_22  V) := by
  unfold f_X9_strength_22 t_X9_strength_22
  exact (e_X9_strength_43 h)
noncomputable def t_X9_strength_38 (V : zW) : Option (Int × zW) :=
  t_X9_strength_43 1 V
theorem e_X9_strength_38 {σ : zM} {m : Nat} (h : tOK m σ) {V : zW} : tR (tfi σ m) (f_X9_strength_38  (tw σ m V)) (t_X9_strength_38  V) := by
  unfold f_X9_strength_38 t_X9_strength_38
  exact (e_X9_strength_43 h)
noncomputable def t_X9_strength (x0 : Int) (V : zW) : Option (Int × zW) :=
  if x0 ≠ 18 then
    if x0 = 16 then
      t_X9_strength_22 V
    else
      if x0 ≠ 17 then
        if x0 = 19 then
          t_X9_strength_38 V
        else
          if x0 ≠ 20 then
            t_X9_strength_43 0 V
          else
            t_X9_strength_38 V
      else
        t_X9_strength_22 V
  else
    t_X9_strength_43 3 V
theorem e_X9_strength {σ : zM} {m : Nat} (h : tOK m σ) {x0 : Int} {V : zW} : tR (tfi σ m) (f_X9_strength x0 (tw σ m V)) (t_X9_strength x0 V) := by
  unfold f_X9_strength t_X9_strength
  refine te_if ?_ ?_
  · refine te_if ?_ ?_
    · exact (e_X9_strength_22 h)
    · refine te_if ?_ ?_
      · refine te_if ?_ ?_
        · exact (e_X9_strength_38 h)
        · refine te_if ?_ ?_
          · exact (e_X9_strength_43 h)
          · exact (e_X9_strength_38 h)
      · exact (e_X9_strength_22 h)
  · exact (e_X9_strength_43 h)
noncomputable def t_X9_settle_51 (V : zW) : Option zW :=
  some V
theorem e_X9_settle_51 {σ : zM} {m : Nat} (h : tOK m σ) {V : zW} : tR (tfv σ m) (f_X9_settle_51  (tw σ m V)) (t_X9_settle_51  V) := by
  unfold f_X9_settle_51 t_X9_settle_51
  exact te_some rfl
noncomputable def t_X9_settle_0_b (x1 : Int) (V : zW) : Option ((zW) ⊕ zW) :=
  zlet (V.1 942) fun v1 =>
  if v1 ≤ 0 then
    (t_X9_settle_51 V).map (fun r => (.inr r))
  else
    zlet (V.1 942) fun v3 =>
    (tga V 943 (zsub v3 1)).bind fun v4 =>
    tci (t_X9_strength v4 V) fun v5 V6 =>
    if v5 < x1 then
      (t_X9_settle_51 V6).map (fun r => (.inr r))
    else
      zlet (V6.1 942) fun v7 =>
      twl (us V6 942 (zsub v7 1)) fun V8 =>
      zlet (V8.1 942) fun v10 =>
      (tga V8 943 v10).bind fun v11 =>
      tcv (t_X9_emit v11 V8) fun V12 =>
      some (.inl V12)
theorem e_X9_settle_0_b {σ : zM} {m : Nat} (h : tOK m σ) {x1 : Int} {V : zW} : tR (Sum.map (tw σ m) (tfv σ m)) (f_X9_settle_0_b (m : Int) x1 (tw σ m V)) (t_X9_settle_0_b x1 V) := by
  unfold f_X9_settle_0_b t_X9_settle_0_b
  refine te_gs h rfl (fun v1 => ?_)
  refine te_if ?_ ?_
  · exact te_map (e_X9_settle_51 h) (fun r => rfl)
  · refine te_gr h (f := 943) rfl ?_
    refine te_gs h rfl (fun v3 => ?_)
    refine te_ga h rfl (fun v4 => ?_)
    refine te_ci (e_X9_strength h) (fun v5 V6 => ?_)
    refine te_if ?_ ?_
    · exact te_map (e_X9_settle_51 h) (fun r => rfl)
    · refine te_gs h rfl (fun v7 => ?_)
      refine te_ps h rfl (fun V8 => ?_)
      refine te_gr h (f := 943) rfl ?_
      refine te_gs h rfl (fun v10 => ?_)
      refine te_ga h rfl (fun v11 => ?_)
      refine te_is h ?_
      refine te_cv (e_X9_emit h) (fun V12 => ?_)
      exact te_some rfl
noncomputable def t_X9_settle_0 (x1 : Int) (V : zW) : Option zW :=
  zloop (fun s : zW => t_X9_settle_0_b x1 s) V
theorem e_X9_settle_0 {σ : zM} {m : Nat} (h : tOK m σ) {x1 : Int} {V : zW} : tR (tfv σ m) (f_X9_settle_0 (m : Int) x1 (tw σ m V)) (t_X9_settle_0 x1 V) := by
  unfold f_X9_settle_0 t_X9_settle_0
  refine te_loop (φ := (tw σ m)) (s := V) (fun s => ?_)
  exact e_X9_settle_0_b h
noncomputable def t_X9_settle (x1 : Int) (V : zW) : Option zW :=
  t_X9_settle_0 x1 V
theorem e_X9_settle {σ : zM} {m : Nat} (h : tOK m σ) {x1 : Int} {V : zW} : tR (tfv σ m) (f_X9_settle (m : Int) x1 (tw σ m V)) (t_X9_settle x1 V) := by
  unfold f_X9_settle t_X9_settle
  exact (e_X9_settle_0 h)
noncomputable def t_X9_expression_444 (V : zW) : Option (Int × zW) :=
  tci (t_X9_fail V) fun v1 V2 =>
  zgd (z01 v1) <|
  some (v1, V2)
theorem e_X9_expression_444 {σ : zM} {m : Nat} (h : tOK m σ) {V : zW} : tR (tfi σ m) (f_X9_expression_444 (m : Int) (tw σ m V)) (t_X9_expression_444  V) := by
  unfold f_X9_expression_444 t_X9_expression_444
  refine te_is h ?_
  refine te_ci (e_X9_fail h) (fun v1 V2 => ?_)
  refine te_gd ?_
  exact te_some rfl
noncomputable def t_X9_expression_438 (x1 x2 x3 x4 x5 : Int) (V : zW) : Option ((Int × Int × Int × Int × zW) ⊕ (Int × zW)) :=
  zlet (zadd x5 1) fun y1 =>
  some (.inl (x2, x3, x4, y1, V))
theorem e_X9_expression_438 {σ : zM} {m : Nat} (h : tOK m σ) {x1 x2 x3 x4 x5 : Int} {V : zW} : tR (Sum.map (fun s => (s.1, s.2.1, s.2.2.1, s.2.2.2.1, tw σ m s.2.2.2.2)) (tfi σ m)) (f_X9_expression_438 (m : Int) x1 x2 x3 x4 x5 (tw σ m V)) (t_X9_expression_438 x1 x2 x3 x4 x5 V) := by
  unfold f_X9_expression_438 t_X9_expression_438
  refine te_let (fun y1 => ?_)
  exact te_some rfl
noncomputable def t_X9_expression_404 (x1 x2 x3 x5 x8 : Int) (V : zW) : Option ((Int × Int × Int × Int × zW) ⊕ (Int × zW)) :=
  zlet (V.1 942) fun v2 =>
  (tpa V 943 v2 x8).bind fun V3 =>
  zlet (V3.1 942) fun v4 =>
  twl (us V3 942 (zadd v4 1)) fun V5 =>
  zlet (V5.1 903) fun v6 =>
  twl (us V5 903 (zadd v6 1)) fun V7 =>
  t_X9_expression_438 x1 x2 x3 1 x5 V7
theorem e_X9_expression_404 {σ : zM} {m : Nat} (h : tOK m σ) {x1 x2 x3 x5 x8 : Int} {V : zW} : tR (Sum.map (fun s => (s.1, s.2.1, s.2.2.1, s.2.2.2.1, tw σ m s.2.2.2.2)) (tfi σ m)) (f_X9_expression_404 (m : Int) x1 x2 x3 x5 x8 (tw σ m V)) (t_X9_expression_404 x1 x2 x3 x5 x8 V) := by
  unfold f_X9_expression_404 t_X9_expression_404
  refine te_gr h (f := 943) rfl ?_
  refine te_gs h rfl (fun v2 => ?_)
  refine te_pa h rfl (fun V3 => ?_)
  refine te_gs h rfl (fun v4 => ?_)
  refine te_ps h rfl (fun V5 => ?_)
  refine te_gs h rfl (fun v6 => ?_)
  refine te_ps h rfl (fun V7 => ?_)
  exact (e_X9_expression_438 h)
noncomputable def t_X9_expression_399 (V : zW) : Option (Int × zW) :=
  tci (t_X9_fail V) fun v1 V2 =>
  zgd (z01 v1) <|
  some (v1, V2)
theorem e_X9_expression_399 {σ : zM} {m : Nat} (h : tOK m σ) {V : zW} : tR (tfi σ m) (f_X9_expression_399 (m : Int) (tw σ m V)) (t_X9_expression_399  V) := by
  unfold f_X9_expression_399 t_X9_expression_399
  refine te_is h ?_
  refine te_ci (e_X9_fail h) (fun v1 V2 => ?_)
  refine te_gd ?_
  exact te_some rfl
noncomputable def t_X9_expression_362 (x1 x2 x3 x5 x8 t0 : Int) (V : zW) : Option ((Int × Int × Int × Int × zW) ⊕ (Int × zW)) :=
  tcv (t_X9_settle t0 V) fun V1 =>
  tci (t_X9_strength x8 V1) fun v2 V3 =>
  if v2 ≠ 1 then
    t_X9_expression_404 x1 x2 x3 x5 x8 V3
  else
    zlet (V3.1 942) fun v4 =>
    if v4 ≤ 0 then
      t_X9_expression_404 x1 x2 x3 x5 x8 V3
    else
      zlet (V3.1 942) fun v6 =>
      (tga V3 943 (zsub v6 1)).bind fun v7 =>
      tci (t_X9_strength v7 V3) fun v8 V9 =>
      if v8 ≠ 1 then
        t_X9_expression_404 x1 x2 x3 x5 x8 V9
      else
        (t_X9_expression_399 V9).map (fun r => (.inr r))
theorem e_X9_expression_362 {σ : zM} {m : Nat} (h : tOK m σ) {x1 x2 x3 x5 x8 t0 : Int} {V : zW} : tR (Sum.map (fun s => (s.1, s.2.1, s.2.2.1, s.2.2.2.1, tw σ m s.2.2.2.2)) (tfi σ m)) (f_X9_expression_362 (m : Int) x1 x2 x3 x5 x8 t0 (m : Int) (tw σ m V)) (t_X9_expression_362 x1 x2 x3 x5 x8 t0 V) := by
  unfold f_X9_expression_362 t_X9_expression_362
  refine te_is h ?_
  refine te_cv (e_X9_settle h) (fun V1 => ?_)
  refine te_ci (e_X9_strength h) (fun v2 V3 => ?_)
  refine te_if ?_ ?_
  · exact (e_X9_expression_404 h)
  · refine te_gs h rfl (fun v4 => ?_)
    refine te_if ?_ ?_
    · exact (e_X9_expression_404 h)
    · refine te_gr h (f := 943) rfl ?_
      refine te_gs h rfl (fun v6 => ?_)
      refine te_ga h rfl (fun v7 => ?_)
      refine te_ci (e_X9_strength h) (fun v8 V9 => ?_)
      refine te_if ?_ ?_
      · exact (e_X9_expression_404 h)
      · exact te_map (e_X9_expression_399 h) (fun r => rfl)
noncomputable def t_X9_expression_342 (t0 : Int) (V : zW) : Option (Int × zW) :=
  zgd (z01 t0) <|
  some (t0, V)
theorem e_X9_expression_342 {σ : zM} {m : Nat} (h : tOK m σ) {t0 : Int} {V : zW} : tR (tfi σ m) (f_X9_expression_342 t0 (tw σ m V)) (t_X9_expression_342 t0 V) := by
  unfold f_X9_expression_342 t_X9_expression_342
  refine te_gd ?_
  exact te_some rfl
noncomputable def t_X9_expression_337 (V : zW) : Option (Int × zW) :=
  t_X9_expression_342 1 V
theorem e_X9_expression_337 {σ : zM} {m : Nat} (h : tOK m σ) {V : zW} : tR (tfi σ m) (f_X9_expression_337  (tw σ m V)) (t_X9_expression_337  V) := by
  unfold f_X9_expression_337 t_X9_expression_337
  exact (e_X9_expression_342 h)
noncomputable def t_X9_expression_318 (V : zW) : Option (Int × zW) :=
  tcv (t_X9_settle 1 V) fun V1 =>
  zlet (V1.1 942) fun v2 =>
  if v2 = 0 then
    t_X9_expression_337 V1
  else
    tci (t_X9_fail V1) fun v3 V4 =>
    if v3 = 0 then
      t_X9_expression_342 0 V4
    else
      t_X9_expression_337 V4
theorem e_X9_expression_318 {σ : zM} {m : Nat} (h : tOK m σ) {V : zW} : tR (tfi σ m) (f_X9_expression_318 (m : Int) (tw σ m V)) (t_X9_expression_318  V) := by
  unfold f_X9_expression_318 t_X9_expression_318
  refine te_is h ?_
  refine te_cv (e_X9_settle h) (fun V1 => ?_)
  refine te_gs h rfl (fun v2 => ?_)
  refine te_if ?_ ?_
  · exact (e_X9_expression_337 h)
  · refine te_is h ?_
    refine te_ci (e_X9_fail h) (fun v3 V4 => ?_)
    refine te_if ?_ ?_
    · exact (e_X9_expression_342 h)
    · exact (e_X9_expression_337 h)
noncomputable def t_X9_expression_311 (x1 x2 x3 x5 t0 : Int) (V : zW) : Option ((Int × Int × Int × Int × zW) ⊕ (Int × zW)) :=
  if 0 ≤ t0 then
    tci (t_X9_strength t0 V) fun v1 V2 =>
    if 2 ≤ v1 then
      tci (t_X9_strength t0 V2) fun v3 V4 =>
      t_X9_expression_362 x1 x2 x3 x5 t0 v3 V4
    else
      t_X9_expression_362 x1 x2 x3 x5 t0 2 V2
  else
    (t_X9_expression_318 V).map (fun r => (.inr r))
theorem e_X9_expression_311 {σ : zM} {m : Nat} (h : tOK m σ) {x1 x2 x3 x5 t0 : Int} {V : zW} : tR (Sum.map (fun s => (s.1, s.2.1, s.2.2.1, s.2.2.2.1, tw σ m s.2.2.2.2)) (tfi σ m)) (f_X9_expression_311 (m : Int) x1 x2 x3 x5 t0 (tw σ m V)) (t_X9_expression_311 x1 x2 x3 x5 t0 V) := by
  unfold f_X9_expression_311 t_X9_expression_311
  refine te_if ?_ ?_
  · refine te_ci (e_X9_strength h) (fun v1 V2 => ?_)
    refine te_if ?_ ?_
    · refine te_ci (e_X9_strength h) (fun v3 V4 => ?_)
      exact (e_X9_expression_362 h)
    · exact (e_X9_expression_362 h)
  · exact te_map (e_X9_expression_318 h) (fun r => rfl)
noncomputable def t_X9_expression_250 (x1 x2 x3 x5 x6 : Int) (V : zW) : Option ((Int × Int × Int × Int × zW) ⊕ (Int × zW)) :=
  if x6 ≠ 43 then
    if x6 ≠ 45 then
      if x6 ≠ 42 then
        if x6 ≠ 61 then
          if x6 ≠ 60 then
            t_X9_expression_311 x1 x2 x3 x5 (-1) V
          else
            t_X9_expression_311 x1 x2 x3 x5 20 V
        else
          t_X9_expression_311 x1 x2 x3 x5 19 V
      else
        t_X9_expression_311 x1 x2 x3 x5 18 V
    else
      t_X9_expression_311 x1 x2 x3 x5 17 V
  else
    t_X9_expression_311 x1 x2 x3 x5 16 V
theorem e_X9_expression_250 {σ : zM} {m : Nat} (h : tOK m σ) {x1 x2 x3 x5 x6 : Int} {V : zW} : tR (Sum.map (fun s => (s.1, s.2.1, s.2.2.1, s.2.2.2.1, tw σ m s.2.2.2.2)) (tfi σ m)) (f_X9_expression_250 (m : Int) x1 x2 x3 x5 x6 (tw σ m V)) (t_X9_expression_250 x1 x2 x3 x5 x6 V) := by
  unfold f_X9_expression_250 t_X9_expression_250
  refine te_if ?_ ?_
  · refine te_if ?_ ?_
    · refine te_if ?_ ?_
      · refine te_if ?_ ?_
        · refine te_if ?_ ?_
          · exact (e_X9_expression_311 h)
          · exact (e_X9_expression_311 h)
        · exact (e_X9_expression_311 h)
      · exact (e_X9_expression_311 h)
    · exact (e_X9_expression_311 h)
  · exact (e_X9_expression_311 h)
noncomputable def t_X9_expression_188 (x1 x2 x3 x5 t0 : Int) (V : zW) : Option ((Int × Int × Int × Int × zW) ⊕ (Int × zW)) :=
  tcv (t_X9_emit t0 V) fun V1 =>
  zlet (V1.1 903) fun v2 =>
  twl (us V1 903 (zadd v2 1)) fun V3 =>
  t_X9_expression_438 x1 x2 x3 0 x5 V3
theorem e_X9_expression_188 {σ : zM} {m : Nat} (h : tOK m σ) {x1 x2 x3 x5 t0 : Int} {V : zW} : tR (Sum.map (fun s => (s.1, s.2.1, s.2.2.1, s.2.2.2.1, tw σ m s.2.2.2.2)) (tfi σ m)) (f_X9_expression_188 (m : Int) x1 x2 x3 x5 t0 (m : Int) (tw σ m V)) (t_X9_expression_188 x1 x2 x3 x5 t0 V) := by
  unfold f_X9_expression_188 t_X9_expression_188
  refine te_is h ?_
  refine te_cv (e_X9_emit h) (fun V1 => ?_)
  refine te_gs h rfl (fun v2 => ?_)
  refine te_ps h rfl (fun V3 => ?_)
  exact (e_X9_expression_438 h)
noncomputable def t_X9_expression_158 (V : zW) : Option (Int × zW) :=
  tci (t_X9_fail V) fun v1 V2 =>
  zgd (z01 v1) <|
  some (v1, V2)
theorem e_X9_expression_158 {σ : zM} {m : Nat} (h : tOK m σ) {V : zW} : tR (tfi σ m) (f_X9_expression_158 (m : Int) (tw σ m V)) (t_X9_expression_158  V) := by
  unfold f_X9_expression_158 t_X9_expression_158
  refine te_is h ?_
  refine te_ci (e_X9_fail h) (fun v1 V2 => ?_)
  refine te_gd ?_
  exact te_some rfl
noncomputable def t_X9_expression_152 (x1 x2 x3 x5 x7 x8 : Int) (V : zW) : Option ((Int × Int × Int × Int × zW) ⊕ (Int × zW)) :=
  if x2 ≠ 12 then
    zlet (zadd x2 1) fun y1 =>
    if x8 = 0 then
      tci (t_X9_from 48 8 V) fun v2 V3 =>
      t_X9_expression_188 x1 y1 x3 x5 v2 V3
    else
      t_X9_expression_188 x1 y1 x3 x5 (zadd 8 x7) V
  else
    (t_X9_expression_158 V).map (fun r => (.inr r))
theorem e_X9_expression_152 {σ : zM} {m : Nat} (h : tOK m σ) {x1 x2 x3 x5 x7 x8 : Int} {V : zW} : tR (Sum.map (fun s => (s.1, s.2.1, s.2.2.1, s.2.2.2.1, tw σ m s.2.2.2.2)) (tfi σ m)) (f_X9_expression_152 (m : Int) x1 x2 x3 x5 x7 x8 (tw σ m V)) (t_X9_expression_152 x1 x2 x3 x5 x7 x8 V) := by
  unfold f_X9_expression_152 t_X9_expression_152
  refine te_if ?_ ?_
  · refine te_let (fun y1 => ?_)
    refine te_if ?_ ?_
    · refine te_is h ?_
      refine te_ci (e_X9_from h) (fun v2 V3 => ?_)
      exact (e_X9_expression_188 h)
    · exact (e_X9_expression_188 h)
  · exact te_map (e_X9_expression_158 h) (fun r => rfl)
noncomputable def t_X9_expression_134 (x1 x2 x3 x5 x7 t0 : Int) (V : zW) : Option ((Int × Int × Int × Int × zW) ⊕ (Int × zW)) :=
  if t0 ≠ 0 then
    t_X9_expression_152 x1 x2 x3 x5 x7 t0 V
  else
    tci (t_X9_from 48 8 V) fun v1 V2 =>
    if v1 < 0 then
      (t_X9_expression_158 V2).map (fun r => (.inr r))
    else
      t_X9_expression_152 x1 x2 x3 x5 x7 t0 V2
theorem e_X9_expression_134 {σ : zM} {m : Nat} (h : tOK m σ) {x1 x2 x3 x5 x7 t0 : Int} {V : zW} : tR (Sum.map (fun s => (s.1, s.2.1, s.2.2.1, s.2.2.2.1, tw σ m s.2.2.2.2)) (tfi σ m)) (f_X9_expression_134 (m : Int) x1 x2 x3 x5 x7 t0 (tw σ m V)) (t_X9_expression_134 x1 x2 x3 x5 x7 t0 V) := by
  unfold f_X9_expression_134 t_X9_expression_134
  refine te_if ?_ ?_
  · exact (e_X9_expression_152 h)
  · refine te_is h ?_
    refine te_ci (e_X9_from h) (fun v1 V2 => ?_)
    refine te_if ?_ ?_
    · exact te_map (e_X9_expression_158 h) (fun r => rfl)
    · exact (e_X9_expression_152 h)
noncomputable def t_X9_expression_133 (x1 x2 x3 x5 x7 : Int) (V : zW) : Option ((Int × Int × Int × Int × zW) ⊕ (Int × zW)) :=
  t_X9_expression_134 x1 x2 x3 x5 x7 0 V
theorem e_X9_expression_133 {σ : zM} {m : Nat} (h : tOK m σ) {x1 x2 x3 x5 x7 : Int} {V : zW} : tR (Sum.map (fun s => (s.1, s.2.1, s.2.2.1, s.2.2.2.1, tw σ m s.2.2.2.2)) (tfi σ m)) (f_X9_expression_133 (m : Int) x1 x2 x3 x5 x7 (tw σ m V)) (t_X9_expression_133 x1 x2 x3 x5 x7 V) := by
  unfold f_X9_expression_133 t_X9_expression_133
  exact (e_X9_expression_134 h)
noncomputable def t_X9_expression_129 (x1 x2 x3 x5 x7 : Int) (V : zW) : Option ((Int × Int × Int × Int × zW) ⊕ (Int × zW)) :=
  t_X9_expression_134 x1 x2 x3 x5 x7 1 V
theorem e_X9_expression_129 {σ : zM} {m : Nat} (h : tOK m σ) {x1 x2 x3 x5 x7 : Int} {V : zW} : tR (Sum.map (fun s => (s.1, s.2.1, s.2.2.1, s.2.2.2.1, tw σ m s.2.2.2.2)) (tfi σ m)) (f_X9_expression_129 (m : Int) x1 x2 x3 x5 x7 (tw σ m V)) (t_X9_expression_129 x1 x2 x3 x5 x7 V) := by
  unfold f_X9_expression_129 t_X9_expression_129
  exact (e_X9_expression_134 h)
noncomputable def t_X9_expression_99 (x1 x2 x3 x4 x5 x6 x7 : Int) (V : zW) : Option ((Int × Int × Int × Int × zW) ⊕ (Int × zW)) :=
  if x4 = 0 then
    if x6 ≠ 41 then
      t_X9_expression_250 x1 x2 x3 x5 x6 V
    else
      if x3 ≤ x1 then
        t_X9_expression_250 x1 x2 x3 x5 x6 V
      else
        tcv (t_X9_settle 1 V) fun V1 =>
        zlet (V1.1 942) fun v2 =>
        twl (us V1 942 (zsub v2 1)) fun V3 =>
        zlet (zadd x3 (-1)) fun y4 =>
        zlet (V3.1 903) fun v5 =>
        twl (us V3 903 (zadd v5 1)) fun V6 =>
        t_X9_expression_438 x1 x2 y4 x4 x5 V6
  else
    if x7 < 0 then
      t_X9_expression_133 x1 x2 x3 x5 x7 V
    else
      (tga V 909 x7).bind fun v8 =>
      if 0 ≤ v8 then
        t_X9_expression_129 x1 x2 x3 x5 x7 V
      else
        (tga V 910 x7).bind fun v10 =>
        if v10 < 0 then
          t_X9_expression_133 x1 x2 x3 x5 x7 V
        else
          t_X9_expression_129 x1 x2 x3 x5 x7 V
theorem e_X9_expression_99 {σ : zM} {m : Nat} (h : tOK m σ) {x1 x2 x3 x4 x5 x6 x7 : Int} {V : zW} : tR (Sum.map (fun s => (s.1, s.2.1, s.2.2.1, s.2.2.2.1, tw σ m s.2.2.2.2)) (tfi σ m)) (f_X9_expression_99 (m : Int) x1 x2 x3 x4 x5 x6 x7 (tw σ m V)) (t_X9_expression_99 x1 x2 x3 x4 x5 x6 x7 V) := by
  unfold f_X9_expression_99 t_X9_expression_99
  refine te_if ?_ ?_
  · refine te_if ?_ ?_
    · exact (e_X9_expression_250 h)
    · refine te_if ?_ ?_
      · exact (e_X9_expression_250 h)
      · refine te_is h ?_
        refine te_cv (e_X9_settle h) (fun V1 => ?_)
        refine te_gs h rfl (fun v2 => ?_)
        refine te_ps h rfl (fun V3 => ?_)
        refine te_let (fun y4 => ?_)
        refine te_gs h rfl (fun v5 => ?_)
        refine te_ps h rfl (fun V6 => ?_)
        exact (e_X9_expression_438 h)
  · refine te_if ?_ ?_
    · exact (e_X9_expression_133 h)
    · refine te_gr h (f := 909) rfl ?_
      refine te_ga h rfl (fun v8 => ?_)
      refine te_if ?_ ?_
      · exact (e_X9_expression_129 h)
      · refine te_gr h (f := 910) rfl ?_
        refine te_ga h rfl (fun v10 => ?_)
        refine te_if ?_ ?_
        · exact (e_X9_expression_133 h)
        · exact (e_X9_expression_129 h)
noncomputable def t_X9_expression_57 (V : zW) : Option (Int × zW) :=
  tci (t_X9_fail V) fun v1 V2 =>
  zgd (z01 v1) <|
  some (v1, V2)
theorem e_X9_expression_57 {σ : zM} {m : Nat} (h : tOK m σ) {V : zW} : tR (tfi σ m) (f_X9_expression_57 (m : Int) (tw σ m V)) (t_X9_expression_57  V) := by
  unfold f_X9_expression_57 t_X9_expression_57
  refine te_is h ?_
  refine te_ci (e_X9_fail h) (fun v1 V2 => ?_)
  refine te_gd ?_
  exact te_some rfl
noncomputable def t_X9_expression_15_b (x1 x2 x3 x4 x5 : Int) (V : zW) : Option ((Int × Int × Int × Int × zW) ⊕ (Int × zW)) :=
  zlet (V.1 901) fun v1 =>
  if v1 < x5 then
    (t_X9_expression_444 V).map (fun r => (.inr r))
  else
    tci (t_X9_here V) fun v2 V3 =>
    tci (t_X9_from 97 8 V3) fun v4 V5 =>
    if x4 = 0 then
      t_X9_expression_99 x1 x2 x3 x4 x5 v2 v4 V5
    else
      if v2 ≠ 40 then
        t_X9_expression_99 x1 x2 x3 x4 x5 v2 v4 V5
      else
        if x3 ≠ 4 then
          zlet (zadd x3 1) fun y6 =>
          zlet (V5.1 942) fun v8 =>
          (tpa V5 943 v8 21).bind fun V9 =>
          zlet (V9.1 942) fun v10 =>
          twl (us V9 942 (zadd v10 1)) fun V11 =>
          zlet (V11.1 903) fun v12 =>
          twl (us V11 903 (zadd v12 1)) fun V13 =>
          t_X9_expression_438 x1 x2 y6 x4 x5 V13
        else
          (t_X9_expression_57 V5).map (fun r => (.inr r))
theorem e_X9_expression_15_b {σ : zM} {m : Nat} (h : tOK m σ) {x1 x2 x3 x4 x5 : Int} {V : zW} : tR (Sum.map (fun s => (s.1, s.2.1, s.2.2.1, s.2.2.2.1, tw σ m s.2.2.2.2)) (tfi σ m)) (f_X9_expression_15_b (m : Int) x1 x2 x3 x4 x5 (tw σ m V)) (t_X9_expression_15_b x1 x2 x3 x4 x5 V) := by
  unfold f_X9_expression_15_b t_X9_expression_15_b
  refine te_gs h rfl (fun v1 => ?_)
  refine te_if ?_ ?_
  · exact te_map (e_X9_expression_444 h) (fun r => rfl)
  · refine te_is h ?_
    refine te_ci (e_X9_here h) (fun v2 V3 => ?_)
    refine te_is h ?_
    refine te_ci (e_X9_from h) (fun v4 V5 => ?_)
    refine te_if ?_ ?_
    · exact (e_X9_expression_99 h)
    · refine te_if ?_ ?_
      · exact (e_X9_expression_99 h)
      · refine te_if ?_ ?_
        · refine te_let (fun y6 => ?_)
          refine te_gr h (f := 943) rfl ?_
          refine te_gs h rfl (fun v8 => ?_)
          refine te_pa h rfl (fun V9 => ?_)
          refine te_gs h rfl (fun v10 => ?_)
          refine te_ps h rfl (fun V11 => ?_)
          refine te_gs h rfl (fun v12 => ?_)
          refine te_ps h rfl (fun V13 => ?_)
          exact (e_X9_expression_438 h)
        · exact te_map (e_X9_expression_57 h) (fun r => rfl)
noncomputable def t_X9_expression_15 (x1 x2 x3 x4 x5 : Int) (V : zW) : Option (Int × zW) :=
  zloop (fun s : Int × Int × Int × Int × zW => t_X9_expression_15_b x1 s.1 s.2.1 s.2.2.1 s.2.2.2.1 s.2.2.2.2) (x2, x3, x4, x5, V)
theorem e_X9_expression_15 {σ : zM} {m : Nat} (h : tOK m σ) {x1 x2 x3 x4 x5 : Int} {V : zW} : tR (tfi σ m) (f_X9_expression_15 (m : Int) x1 x2 x3 x4 x5 (tw σ m V)) (t_X9_expression_15 x1 x2 x3 x4 x5 V) := by
  unfold f_X9_expression_15 t_X9_expression_15
  refine te_loop (φ := (fun s => (s.1, s.2.1, s.2.2.1, s.2.2.2.1, tw σ m s.2.2.2.2))) (s := (x2, x3, x4, x5, V)) (fun s => ?_)
  exact e_X9_expression_15_b h
noncomputable def t_X9_expression (x1 : Int) (V : zW) : Option (Int × zW) :=
  twl (us V 942 0) fun V1 =>
  t_X9_expression_15 x1 0 x1 1 0 V1
theorem e_X9_expression {σ : zM} {m : Nat} (h : tOK m σ) {x1 : Int} {V : zW} : tR (tfi σ m) (f_X9_expression (m : Int) x1 (tw σ m V)) (t_X9_expression x1 V) := by
  unfold f_X9_expression t_X9_expression
  refine te_ps h rfl (fun V1 => ?_)
  exact (e_X9_expression_15 h)
noncomputable def t_X9_basic_113 (V : zW) : Option (Int × zW) :=
  tci (t_X9_fail V) fun v1 V2 =>
  zgd (z01 v1) <|
  some (v1, V2)
theorem e_X9_basic_113 {σ : zM} {m : Nat} (h : tOK m σ) {V : zW} : tR (tfi σ m) (f_X9_basic_113 (m : Int) (tw σ m V)) (t_X9_basic_113  V) := by
  unfold f_X9_basic_113 t_X9_basic_113
  refine te_is h ?_
  refine te_ci (e_X9_fail h) (fun v1 V2 => ?_)
  refine te_gd ?_
  exact te_some rfl
noncomputable def t_X9_basic_376 (x6 : Int) (V : zW) : Option (Int × zW) :=
  tci (t_X9_expression 0 V) fun v1 V2 =>
  if v1 ≠ 0 then
    zlet (V2.1 936) fun v4 =>
    (tpa V2 924 x6 v4).bind fun V5 =>
    zgd (z01 1) <|
    some (1, V5)
  else
    zgd (z01 0) <|
    some (0, V2)
theorem e_X9_basic_376 {σ : zM} {m : Nat} (h : tOK m σ) {x6 : Int} {V : zW} : tR (tfi σ m) (f_X9_basic_376 (m : Int) x6 (tw σ m V)) (t_X9_basic_376 x6 V) := by
  unfold f_X9_basic_376 t_X9_basic_376
  refine te_is h ?_
  refine te_ci (e_X9_expression h) (fun v1 V2 => ?_)
  refine te_if ?_ ?_
  · refine te_gr h (f := 924) rfl ?_
    refine te_gs h rfl (fun v4 => ?_)
    refine te_pa h rfl (fun V5 => ?_)
    refine te_gd ?_
    exact te_some rfl
  · refine te_gd ?_
    exact te_some rfl
noncomputable def t_X9_basic_326 (V : zW) : Option (Int × zW) :=
  tci (t_X9_fail V) fun v1 V2 =>
  zgd (z01 v1) <|
  some (v1, V2)
theorem e_X9_basic_326 {σ : zM} {m : Nat} (h : tOK m σ) {V : zW} : tR (tfi σ m) (f_X9_basic_326 (m : Int) (tw σ m V)) (t_X9_basic_326  V) := by
  unfold f_X9_basic_326 t_X9_basic_326
  refine te_is h ?_
  refine te_ci (e_X9_fail h) (fun v1 V2 => ?_)
  refine te_gd ?_
  exact te_some rfl
noncomputable def t_X9_basic_150 (x1 x3 x4 t0 : Int) (V : zW) : Option (Int × zW) :=
  tci (t_X9_node t0 V) fun v1 V2 =>
  zlet (V2.1 903) fun v3 =>
  twl (us V2 903 (zadd v3 1)) fun V4 =>
  zlet (V4.1 936) fun v6 =>
  (tpa V4 923 v1 v6).bind fun V7 =>
  zlet (V7.1 936) fun v9 =>
  (tpa V7 924 v1 v9).bind fun V10 =>
  if x1 ≠ 40 then
    if x4 ≠ 0 then
      (tga V10 909 x3).bind fun v12 =>
      if v12 < 0 then
        (tga V10 910 x3).bind fun v15 =>
        (tpa V10 921 v1 v15).bind fun V16 =>
        tci (t_X9_here V16) fun v17 V18 =>
        if v17 ≠ 63 then
          (tpa V18 914 v1 2).bind fun V20 =>
          tci (t_X9_takes 33 V20) fun v21 V22 =>
          if v21 ≠ 0 then
            t_X9_basic_376 v1 V22
          else
            zgd (z01 0) <|
            some (0, V22)
        else
          (tpa V18 914 v1 3).bind fun V24 =>
          zlet (V24.1 903) fun v25 =>
          twl (us V24 903 (zadd v25 1)) fun V26 =>
          tci (t_X9_from 97 8 V26) fun v27 V28 =>
          if v27 < 0 then
            t_X9_basic_326 V28
          else
            (tga V28 909 v27).bind fun v30 =>
            if 0 ≤ v30 then
              (tga V28 909 v27).bind fun v33 =>
              (tpa V28 922 v1 v33).bind fun V34 =>
              zlet (V34.1 903) fun v35 =>
              twl (us V34 903 (zadd v35 1)) fun V36 =>
              zgd (z01 1) <|
              some (1, V36)
            else
              t_X9_basic_326 V28
      else
        (tga V10 909 x3).bind fun v39 =>
        (tpa V10 921 v1 v39).bind fun V40 =>
        tci (t_X9_takes 61 V40) fun v41 V42 =>
        if v41 ≠ 0 then
          t_X9_basic_376 v1 V42
        else
          zgd (z01 0) <|
          some (0, V42)
    else
      zgd (z01 1) <|
      some (1, V10)
  else
    tci (t_X9_expression 1 V10) fun v43 V44 =>
    if v43 ≠ 0 then
      zlet (V44.1 936) fun v46 =>
      (tpa V44 924 v1 v46).bind fun V47 =>
      tci (t_X9_takes 41 V47) fun v48 V49 =>
      zgd (z01 v48) <|
      some (v48, V49)
    else
      zgd (z01 0) <|
      some (0, V44)
theorem e_X9_basic_150 {σ : zM} {m : Nat} (h : tOK m σ) {x1 x3 x4 t0 : Int} {V : zW} : tR (tfi σ m) (f_X9_basic_150 (m : Int) x1 x3 x4 t0 (m : Int) (tw σ m V)) (t_X9_basic_150 x1 x3 x4 t0 V) := by
  unfold f_X9_basic_150 t_X9_basic_150
  refine te_is h ?_
  refine te_ci (e_X9_node h) (fun v1 V2 => ?_)
  refine te_gs h rfl (fun v3 => ?_)
  refine te_ps h rfl (fun V4 => ?_)
  refine te_gr h (f := 923) rfl ?_
  refine te_gs h rfl (fun v6 => ?_)
  refine te_pa h rfl (fun V7 => ?_)
  refine te_gr h (f := 924) rfl ?_
  refine te_gs h rfl (fun v9 => ?_)
  refine te_pa h rfl (fun V10 => ?_)
  refine te_if ?_ ?_
  · refine te_if ?_ ?_
    · refine te_gr h (f := 909) rfl ?_
      refine te_ga h rfl (fun v12 => ?_)
      refine te_if ?_ ?_
      · refine te_gr h (f := 921) rfl ?_
        refine te_gr h (f := 910) rfl ?_
        refine te_ga h rfl (fun v15 => ?_)
        refine te_pa h rfl (fun V16 => ?_)
        refine te_is h ?_
        refine te_ci (e_X9_here h) (fun v17 V18 => ?_)
        refine te_if ?_ ?_
        · refine te_gr h (f := 914) rfl ?_
          refine te_pa h rfl (fun V20 => ?_)
          refine te_is h ?_
          refine te_ci (e_X9_takes h) (fun v21 V22 => ?_)
          refine te_if ?_ ?_
          · exact (e_X9_basic_376 h)
          · refine te_gd ?_
            exact te_some rfl
        · refine te_gr h (f := 914) rfl ?_
          refine te_pa h rfl (fun V24 => ?_)
          refine te_gs h rfl (fun v25 => ?_)
          refine te_ps h rfl (fun V26 => ?_)
          refine te_is h ?_
          refine te_ci (e_X9_from h) (fun v27 V28 => ?_)
          refine te_if ?_ ?_
          · exact (e_X9_basic_326 h)
          · refine te_gr h (f := 909) rfl ?_
            refine te_ga h rfl (fun v30 => ?_)
            refine te_if ?_ ?_
            · refine te_gr h (f := 922) rfl ?_
              refine te_gr h (f := 909) rfl ?_
              refine te_ga h rfl (fun v33 => ?_)
              refine te_pa h rfl (fun V34 => ?_)
              refine te_gs h rfl (fun v35 => ?_)
              refine te_ps h rfl (fun V36 => ?_)
              refine te_gd ?_
              exact te_some rfl
            · exact (e_X9_basic_326 h)
      · refine te_gr h (f := 921) rfl ?_
        refine te_gr h (f := 909) rfl ?_
        refine te_ga h rfl (fun v39 => ?_)
        refine te_pa h rfl (fun V40 => ?_)
        refine te_is h ?_
        refine te_ci (e_X9_takes h) (fun v41 V42 => ?_)
        refine te_if ?_ ?_
        · exact (e_X9_basic_376 h)
        · refine te_gd ?_
          exact te_some rfl
    · refine te_gd ?_
      exact te_some rfl
  · refine te_is h ?_
    refine te_ci (e_X9_expression h) (fun v43 V44 => ?_)
    refine te_if ?_ ?_
    · refine te_gr h (f := 924) rfl ?_
      refine te_gs h rfl (fun v46 => ?_)
      refine te_pa h rfl (fun V47 => ?_)
      refine te_is h ?_
      refine te_ci (e_X9_takes h) (fun v48 V49 => ?_)
      refine te_gd ?_
      exact te_some rfl
    · refine te_gd ?_
      exact te_some rfl
noncomputable def t_X9_basic_83 (x1 x3 x4 t0 : Int) (V : zW) : Option (Int × zW) :=
  if t0 = 0 then
    t_X9_basic_113 V
  else
    zlet (V.1 927) fun v1 =>
    if v1 = 48 then
      t_X9_basic_113 V
    else
      zlet (V.1 930) fun v3 =>
      (tga V 931 v3).bind fun v4 =>
      if v4 ≠ 30 then
        if x1 ≠ 40 then
          if x1 ≠ 45 then
            if x1 ≠ 126 then
              t_X9_basic_150 x1 x3 x4 0 V
            else
              t_X9_basic_150 x1 x3 x4 5 V
          else
            t_X9_basic_150 x1 x3 x4 4 V
        else
          t_X9_basic_150 x1 x3 x4 1 V
      else
        t_X9_basic_113 V
theorem e_X9_basic_83 {σ : zM} {m : Nat} (h : tOK m σ) {x1 x3 x4 t0 : Int} {V : zW} : tR (tfi σ m) (f_X9_basic_83 (m : Int) x1 x3 x4 t0 (tw σ m V)) (t_X9_basic_83 x1 x3 x4 t0 V) := by
  unfold f_X9_basic_83 t_X9_basic_83
  refine te_if ?_ ?_
  · exact (e_X9_basic_113 h)
  · refine te_gs h rfl (fun v1 => ?_)
    refine te_if ?_ ?_
    · exact (e_X9_basic_113 h)
    · refine te_gr h (f := 931) rfl ?_
      refine te_gs h rfl (fun v3 => ?_)
      refine te_ga h rfl (fun v4 => ?_)
      refine te_if ?_ ?_
      · refine te_if ?_ ?_
        · refine te_if ?_ ?_
          · refine te_if ?_ ?_
            · exact (e_X9_basic_150 h)
            · exact (e_X9_basic_150 h)
          · exact (e_X9_basic_150 h)
        · exact (e_X9_basic_150 h)
      · exact (e_X9_basic_113 h)
noncomputable def t_X9_basic_78 (x1 x3 x4 : Int) (V : zW) : Option (Int × zW) :=
  t_X9_basic_83 x1 x3 x4 1 V
theorem e_X9_basic_78 {σ : zM} {m : Nat} (h : tOK m σ) {x1 x3 x4 : Int} {V : zW} : tR (tfi σ m) (f_X9_basic_78 (m : Int) x1 x3 x4 (tw σ m V)) (t_X9_basic_78 x1 x3 x4 V) := by
  unfold f_X9_basic_78 t_X9_basic_78
  exact (e_X9_basic_83 h)
noncomputable def t_X9_basic_82 (x1 x3 x4 : Int) (V : zW) : Option (Int × zW) :=
  t_X9_basic_83 x1 x3 x4 0 V
theorem e_X9_basic_82 {σ : zM} {m : Nat} (h : tOK m σ) {x1 x3 x4 : Int} {V : zW} : tR (tfi σ m) (f_X9_basic_82 (m : Int) x1 x3 x4 (tw σ m V)) (t_X9_basic_82 x1 x3 x4 V) := by
  unfold f_X9_basic_82 t_X9_basic_82
  exact (e_X9_basic_83 h)
noncomputable def t_X9_basic_36 (x1 x2 x3 t0 : Int) (V : zW) : Option (Int × zW) :=
  if t0 ≠ 0 then
    t_X9_basic_78 x1 x3 t0 V
  else
    if x1 = 40 then
      t_X9_basic_78 x1 x3 t0 V
    else
      if x1 = 45 then
        t_X9_basic_78 x1 x3 t0 V
      else
        if x1 ≠ 126 then
          t_X9_basic_82 x1 x3 t0 V
        else
          if x2 = 0 then
            t_X9_basic_82 x1 x3 t0 V
          else
            zlet (V.1 938) fun v2 =>
            (tga V 939 v2).bind fun v3 =>
            if 3 ≤ v3 then
              t_X9_basic_82 x1 x3 t0 V
            else
              t_X9_basic_78 x1 x3 t0 V
theorem e_X9_basic_36 {σ : zM} {m : Nat} (h : tOK m σ) {x1 x2 x3 t0 : Int} {V : zW} : tR (tfi σ m) (f_X9_basic_36 (m : Int) x1 x2 x3 t0 (tw σ m V)) (t_X9_basic_36 x1 x2 x3 t0 V) := by
  unfold f_X9_basic_36 t_X9_basic_36
  refine te_if ?_ ?_
  · exact (e_X9_basic_78 h)
  · refine te_if ?_ ?_
    · exact (e_X9_basic_78 h)
    · refine te_if ?_ ?_
      · exact (e_X9_basic_78 h)
      · refine te_if ?_ ?_
        · exact (e_X9_basic_82 h)
        · refine te_if ?_ ?_
          · exact (e_X9_basic_82 h)
          · refine te_gr h (f := 939) rfl ?_
            refine te_gs h rfl (fun v2 => ?_)
            refine te_ga h rfl (fun v3 => ?_)
            refine te_if ?_ ?_
            · exact (e_X9_basic_82 h)
            · exact (e_X9_basic_78 h)
noncomputable def t_X9_basic_35 (x1 x2 x3 : Int) (V : zW) : Option (Int × zW) :=
  t_X9_basic_36 x1 x2 x3 0 V
theorem e_X9_basic_35 {σ : zM} {m : Nat} (h : tOK m σ) {x1 x2 x3 : Int} {V : zW} : tR (tfi σ m) (f_X9_basic_35 (m : Int) x1 x2 x3 (tw σ m V)) (t_X9_basic_35 x1 x2 x3 V) := by
  unfold f_X9_basic_35 t_X9_basic_35
  exact (e_X9_basic_36 h)
noncomputable def t_X9_basic_31 (x1 x2 x3 : Int) (V : zW) : Option (Int × zW) :=
  t_X9_basic_36 x1 x2 x3 1 V
theorem e_X9_basic_31 {σ : zM} {m : Nat} (h : tOK m σ) {x1 x2 x3 : Int} {V : zW} : tR (tfi σ m) (f_X9_basic_31 (m : Int) x1 x2 x3 (tw σ m V)) (t_X9_basic_31 x1 x2 x3 V) := by
  unfold f_X9_basic_31 t_X9_basic_31
  exact (e_X9_basic_36 h)
noncomputable def t_X9_basic (x1 x2 : Int) (V : zW) : Option (Int × zW) :=
  tci (t_X9_from 97 8 V) fun v1 V2 =>
  if v1 < 0 then
    t_X9_basic_35 x1 x2 v1 V2
  else
    (tga V2 909 v1).bind fun v4 =>
    if 0 ≤ v4 then
      t_X9_basic_31 x1 x2 v1 V2
    else
      (tga V2 910 v1).bind fun v6 =>
      if v6 < 0 then
        t_X9_basic_35 x1 x2 v1 V2
      else
        t_X9_basic_31 x1 x2 v1 V2
theorem e_X9_basic {σ : zM} {m : Nat} (h : tOK m σ) {x1 x2 : Int} {V : zW} : tR (tfi σ m) (f_X9_basic (m : Int) x1 x2 (tw σ m V)) (t_X9_basic x1 x2 V) := by
  unfold f_X9_basic t_X9_basic
  refine te_is h ?_
  refine te_ci (e_X9_from h) (fun v1 V2 => ?_)
  refine te_if ?_ ?_
  · exact (e_X9_basic_35 h)
  · refine te_gr h (f := 909) rfl ?_
    refine te_ga h rfl (fun v4 => ?_)
    refine te_if ?_ ?_
    · exact (e_X9_basic_31 h)
    · refine te_gr h (f := 910) rfl ?_
      refine te_ga h rfl (fun v6 => ?_)
      refine te_if ?_ ?_
      · exact (e_X9_basic_35 h)
      · exact (e_X9_basic_31 h)
noncomputable def t_X9_statement_104 (V : zW) : Option (Int × zW) :=
  tci (t_X9_fail V) fun v1 V2 =>
  zgd (z01 v1) <|
  some (v1, V2)
theorem e_X9_statement_104 {σ : zM} {m : Nat} (h : tOK m σ) {V : zW} : tR (tfi σ m) (f_X9_statement_104 (m : Int) (tw σ m V)) (t_X9_statement_104  V) := by
  unfold f_X9_statement_104 t_X9_statement_104
  refine te_is h ?_
  refine te_ci (e_X9_fail h) (fun v1 V2 => ?_)
  refine te_gd ?_
  exact te_some rfl
noncomputable def t_X9_statement_139 (x3 t0 : Int) (V : zW) : Option (Int × zW) :=
  tcv (t_X9_enter t0 x3 V) fun V1 =>
  zgd (z01 1) <|
  some (1, V1)
theorem e_X9_statement_139 {σ : zM} {m : Nat} (h : tOK m σ) {x3 t0 : Int} {V : zW} : tR (tfi σ m) (f_X9_statement_139 x3 t0 (m : Int) (tw σ m V)) (t_X9_statement_139 x3 t0 V) := by
  unfold f_X9_statement_139 t_X9_statement_139
  refine te_is h ?_
  refine te_cv (e_X9_enter h) (fun V1 => ?_)
  refine te_gd ?_
  exact te_some rfl
noncomputable def t_X9_statement_123 (x1 t0 : Int) (V : zW) : Option (Int × zW) :=
  tci (t_X9_node t0 V) fun v1 V2 =>
  if x1 ≠ 42 then
    t_X9_statement_139 v1 1 V2
  else
    t_X9_statement_139 v1 2 V2
theorem e_X9_statement_123 {σ : zM} {m : Nat} (h : tOK m σ) {x1 t0 : Int} {V : zW} : tR (tfi σ m) (f_X9_statement_123 (m : Int) x1 t0 (m : Int) (tw σ m V)) (t_X9_statement_123 x1 t0 V) := by
  unfold f_X9_statement_123 t_X9_statement_123
  refine te_is h ?_
  refine te_ci (e_X9_node h) (fun v1 V2 => ?_)
  refine te_if ?_ ?_
  · exact (e_X9_statement_139 h)
  · exact (e_X9_statement_139 h)
noncomputable def t_X9_statement_82 (x1 t0 t1 : Int) (V : zW) : Option (Int × zW) :=
  twl (us V 903 (zadd t1 t0)) fun V1 =>
  tci (t_X9_here V1) fun v2 V3 =>
  if v2 ≠ 91 then
    t_X9_statement_104 V3
  else
    zlet (V3.1 938) fun v4 =>
    if v4 ≠ 6 then
      if x1 ≠ 42 then
        t_X9_statement_123 x1 6 V3
      else
        t_X9_statement_123 x1 7 V3
    else
      t_X9_statement_104 V3
theorem e_X9_statement_82 {σ : zM} {m : Nat} (h : tOK m σ) {x1 t0 t1 : Int} {V : zW} : tR (tfi σ m) (f_X9_statement_82 (m : Int) x1 t0 t1 (m : Int) (tw σ m V)) (t_X9_statement_82 x1 t0 t1 V) := by
  unfold f_X9_statement_82 t_X9_statement_82
  refine te_ps h rfl (fun V1 => ?_)
  refine te_is h ?_
  refine te_ci (e_X9_here h) (fun v2 V3 => ?_)
  refine te_if ?_ ?_
  · exact (e_X9_statement_104 h)
  · refine te_gs h rfl (fun v4 => ?_)
    refine te_if ?_ ?_
    · refine te_if ?_ ?_
      · exact (e_X9_statement_123 h)
      · exact (e_X9_statement_123 h)
    · exact (e_X9_statement_104 h)
noncomputable def t_X9_statement_47 (x1 : Int) (V : zW) : Option (Int × zW) :=
  zlet (V.1 930) fun v2 =>
  (tga V 931 v2).bind fun v3 =>
  if v3 ≠ 30 then
    zlet (V.1 903) fun v4 =>
    if x1 ≠ 42 then
      t_X9_statement_82 x1 0 v4 V
    else
      t_X9_statement_82 x1 1 v4 V
  else
    tci (t_X9_fail V) fun v5 V6 =>
    zgd (z01 v5) <|
    some (v5, V6)
theorem e_X9_statement_47 {σ : zM} {m : Nat} (h : tOK m σ) {x1 : Int} {V : zW} : tR (tfi σ m) (f_X9_statement_47 (m : Int) x1 (tw σ m V)) (t_X9_statement_47 x1 V) := by
  unfold f_X9_statement_47 t_X9_statement_47
  refine te_gr h (f := 931) rfl ?_
  refine te_gs h rfl (fun v2 => ?_)
  refine te_ga h rfl (fun v3 => ?_)
  refine te_if ?_ ?_
  · refine te_gs h rfl (fun v4 => ?_)
    refine te_if ?_ ?_
    · exact (e_X9_statement_82 h)
    · exact (e_X9_statement_82 h)
  · refine te_is h ?_
    refine te_ci (e_X9_fail h) (fun v5 V6 => ?_)
    refine te_gd ?_
    exact te_some rfl
noncomputable def t_X9_statement_206 (V : zW) : Option (Int × zW) :=
  tci (t_X9_fail V) fun v1 V2 =>
  zgd (z01 v1) <|
  some (v1, V2)
theorem e_X9_statement_206 {σ : zM} {m : Nat} (h : tOK m σ) {V : zW} : tR (tfi σ m) (f_X9_statement_206 (m : Int) (tw σ m V)) (t_X9_statement_206  V) := by
  unfold f_X9_statement_206 t_X9_statement_206
  refine te_is h ?_
  refine te_ci (e_X9_fail h) (fun v1 V2 => ?_)
  refine te_gd ?_
  exact te_some rfl
noncomputable def t_X9_statement_168 (V : zW) : Option (Int × zW) :=
  tci (t_X9_fail V) fun v1 V2 =>
  zgd (z01 v1) <|
  some (v1, V2)
theorem e_X9_statement_168 {σ : zM} {m : Nat} (h : tOK m σ) {V : zW} : tR (tfi σ m) (f_X9_statement_168 (m : Int) (tw σ m V)) (t_X9_statement_168  V) := by
  unfold f_X9_statement_168 t_X9_statement_168
  refine te_is h ?_
  refine te_ci (e_X9_fail h) (fun v1 V2 => ?_)
  refine te_gd ?_
  exact te_some rfl
noncomputable def t_X9_statement_34 (x1 t0 : Int) (V : zW) : Option (Int × zW) :=
  if x1 = 91 then
    t_X9_statement_47 x1 V
  else
    if x1 ≠ 42 then
      if x1 ≠ 60 then
        if x1 ≠ 46 then
          if x1 ≠ 94 then
            tci (t_X9_basic x1 t0 V) fun v1 V2 =>
            zgd (z01 v1) <|
            some (v1, V2)
          else
            if t0 = 0 then
              zlet (V.1 903) fun v3 =>
              twl (us V 903 (zadd v3 1)) fun V4 =>
              tci (t_X9_from 65 8 V4) fun v5 V6 =>
              if 0 ≤ v5 then
                tci (t_X9_node 10 V6) fun v7 V8 =>
                tci (t_X9_from 65 8 V8) fun v10 V11 =>
                (tpa V11 921 v7 v10).bind fun V12 =>
                zlet (V12.1 903) fun v14 =>
                (tpa V12 925 v7 v14).bind fun V15 =>
                zlet (V15.1 903) fun v16 =>
                twl (us V15 903 (zadd v16 1)) fun V17 =>
                zgd (z01 1) <|
                some (1, V17)
              else
                tci (t_X9_fail V6) fun v18 V19 =>
                zgd (z01 v18) <|
                some (v18, V19)
            else
              tci (t_X9_fail V) fun v20 V21 =>
              zgd (z01 v20) <|
              some (v20, V21)
        else
          tci (t_X9_around 2 V) fun v22 V23 =>
          if v22 = 0 then
            t_X9_statement_206 V23
          else
            if t0 = 0 then
              tci (t_X9_node 9 V23) fun v24 V25 =>
              zlet (V25.1 903) fun v26 =>
              twl (us V25 903 (zadd v26 1)) fun V27 =>
              zgd (z01 1) <|
              some (1, V27)
            else
              t_X9_statement_206 V23
      else
        tci (t_X9_around 3 V) fun v28 V29 =>
        if v28 ≠ 0 then
          t_X9_statement_168 V29
        else
          zlet (V29.1 938) fun v30 =>
          if v30 ≠ 6 then
            tci (t_X9_node 8 V29) fun v31 V32 =>
            tcv (t_X9_enter 3 v31 V32) fun V33 =>
            zgd (z01 1) <|
            some (1, V33)
          else
            t_X9_statement_168 V29
    else
      t_X9_statement_47 x1 V
theorem e_X9_statement_34 {σ : zM} {m : Nat} (h : tOK m σ) {x1 t0 : Int} {V : zW} : tR (tfi σ m) (f_X9_statement_34 (m : Int) x1 t0 (tw σ m V)) (t_X9_statement_34 x1 t0 V) := by
  unfold f_X9_statement_34 t_X9_statement_34
  refine te_if ?_ ?_
  · exact (e_X9_statement_47 h)
  · refine te_if ?_ ?_
    · refine te_if ?_ ?_
      · refine te_if ?_ ?_
        · refine te_if ?_ ?_
          · refine te_is h ?_
            refine te_ci (e_X9_basic h) (fun v1 V2 => ?_)
            refine te_gd ?_
            exact te_some rfl
          · refine te_if ?_ ?_
            · refine te_gs h rfl (fun v3 => ?_)
              refine te_ps h rfl (fun V4 => ?_)
              refine te_is h ?_
              refine te_ci (e_X9_from h) (fun v5 V6 => ?_)
              refine te_if ?_ ?_
              · refine te_is h ?_
                refine te_ci (e_X9_node h) (fun v7 V8 => ?_)
                refine te_gr h (f := 921) rfl ?_
                refine te_is h ?_
                refine te_ci (e_X9_from h) (fun v10 V11 => ?_)
                refine te_pa h rfl (fun V12 => ?_)
                refine te_gr h (f := 925) rfl ?_
                refine te_gs h rfl (fun v14 => ?_)
                refine te_pa h rfl (fun V15 => ?_)
                refine te_gs h rfl (fun v16 => ?_)
                refine te_ps h rfl (fun V17 => ?_)
                refine te_gd ?_
                exact te_some rfl
              · refine te_is h ?_
                refine te_ci (e_X9_fail h) (fun v18 V19 => ?_)
                refine te_gd ?_
                exact te_some rfl
            · refine te_is h ?_
              refine te_ci (e_X9_fail h) (fun v20 V21 => ?_)
              refine te_gd ?_
              exact te_some rfl
        · refine te_is h ?_
          refine te_ci (e_X9_around h) (fun v22 V23 => ?_)
          refine te_if ?_ ?_
          · exact (e_X9_statement_206 h)
          · refine te_if ?_ ?_
            · refine te_is h ?_
              refine te_ci (e_X9_node h) (fun v24 V25 => ?_)
              refine te_gs h rfl (fun v26 => ?_)
              refine te_ps h rfl (fun V27 => ?_)
              refine te_gd ?_
              exact te_some rfl
            · exact (e_X9_statement_206 h)
      · refine te_is h ?_
        refine te_ci (e_X9_around h) (fun v28 V29 => ?_)
        refine te_if ?_ ?_
        · exact (e_X9_statement_168 h)
        · refine te_gs h rfl (fun v30 => ?_)
          refine te_if ?_ ?_
          · refine te_is h ?_
            refine te_ci (e_X9_node h) (fun v31 V32 => ?_)
            refine te_is h ?_
            refine te_cv (e_X9_enter h) (fun V33 => ?_)
            refine te_gd ?_
            exact te_some rfl
          · exact (e_X9_statement_168 h)
    · exact (e_X9_statement_47 h)
noncomputable def t_X9_statement_33 (x1 : Int) (V : zW) : Option (Int × zW) :=
  t_X9_statement_34 x1 0 V
theorem e_X9_statement_33 {σ : zM} {m : Nat} (h : tOK m σ) {x1 : Int} {V : zW} : tR (tfi σ m) (f_X9_statement_33 (m : Int) x1 (tw σ m V)) (t_X9_statement_33 x1 V) := by
  unfold f_X9_statement_33 t_X9_statement_33
  exact (e_X9_statement_34 h)
noncomputable def t_X9_statement (V : zW) : Option (Int × zW) :=
  tci (t_X9_here V) fun v1 V2 =>
  zlet (V2.1 938) fun v4 =>
  (tga V2 939 v4).bind fun v5 =>
  if v5 ≤ 0 then
    t_X9_statement_33 v1 V2
  else
    zlet (V2.1 938) fun v7 =>
    (tga V2 941 v7).bind fun v8 =>
    if 0 ≤ v8 then
      t_X9_statement_33 v1 V2
    else
      t_X9_statement_34 v1 1 V2
theorem e_X9_statement {σ : zM} {m : Nat} (h : tOK m σ) {V : zW} : tR (tfi σ m) (f_X9_statement (m : Int) (tw σ m V)) (t_X9_statement  V) := by
  unfold f_X9_statement t_X9_statement
  refine te_is h ?_
  refine te_ci (e_X9_here h) (fun v1 V2 => ?_)
  refine te_gr h (f := 939) rfl ?_
  refine te_gs h rfl (fun v4 => ?_)
  refine te_ga h rfl (fun v5 => ?_)
  refine te_if ?_ ?_
  · exact (e_X9_statement_33 h)
  · refine te_gr h (f := 941) rfl ?_
    refine te_gs h rfl (fun v7 => ?_)
    refine te_ga h rfl (fun v8 => ?_)
    refine te_if ?_ ?_
    · exact (e_X9_statement_33 h)
    · exact (e_X9_statement_34 h)
noncomputable def t_X9_next_60 (V : zW) : Option (Int × zW) :=
  some ((-1), V)
theorem e_X9_next_60 {σ : zM} {m : Nat} (h : tOK m σ) {V : zW} : tR (tfi σ m) (f_X9_next_60  (tw σ m V)) (t_X9_next_60  V) := by
  unfold f_X9_next_60 t_X9_next_60
  exact te_some rfl
noncomputable def t_X9_next_54 (x2 x3 : Int) (V : zW) : Option ((Int × Int) ⊕ (Int × zW)) :=
  zlet (zadd x3 1) fun y1 =>
  some (.inl (x2, y1))
theorem e_X9_next_54 {σ : zM} {m : Nat} (h : tOK m σ) {x2 x3 : Int} {V : zW} : tR (Sum.map id (tfi σ m)) (f_X9_next_54 (m : Int) x2 x3 (tw σ m V)) (t_X9_next_54 x2 x3 V) := by
  unfold f_X9_next_54 t_X9_next_54
  refine te_let (fun y1 => ?_)
  exact te_some rfl
noncomputable def t_X9_next_52 (x2 : Int) (V : zW) : Option (Int × zW) :=
  some (x2, V)
theorem e_X9_next_52 {σ : zM} {m : Nat} (h : tOK m σ) {x2 : Int} {V : zW} : tR (tfi σ m) (f_X9_next_52 x2 (tw σ m V)) (t_X9_next_52 x2 V) := by
  unfold f_X9_next_52 t_X9_next_52
  exact te_some rfl
noncomputable def t_X9_next_23 (x2 : Int) (V : zW) : Option (Int × zW) :=
  (tga V 917 x2).bind fun v2 =>
  some (v2, V)
theorem e_X9_next_23 {σ : zM} {m : Nat} (h : tOK m σ) {x2 : Int} {V : zW} : tR (tfi σ m) (f_X9_next_23 (m : Int) x2 (tw σ m V)) (t_X9_next_23 x2 V) := by
  unfold f_X9_next_23 t_X9_next_23
  refine te_gr h (f := 917) rfl ?_
  refine te_ga h rfl (fun v2 => ?_)
  exact te_some rfl
noncomputable def t_X9_next_4_b (x2 x3 : Int) (V : zW) : Option ((Int × Int) ⊕ (Int × zW)) :=
  if 8 ≤ x3 then
    (t_X9_next_60 V).map (fun r => (.inr r))
  else
    if x2 < 0 then
      (t_X9_next_60 V).map (fun r => (.inr r))
    else
      (tga V 917 x2).bind fun v2 =>
      if v2 < 0 then
        (tga V 916 x2).bind fun v4 =>
        if v4 < 0 then
          t_X9_next_54 v4 x3 V
        else
          (tga V 914 v4).bind fun v6 =>
          if v6 ≠ 7 then
            t_X9_next_54 v4 x3 V
          else
            (t_X9_next_52 v4 V).map (fun r => (.inr r))
      else
        (t_X9_next_23 x2 V).map (fun r => (.inr r))
theorem e_X9_next_4_b {σ : zM} {m : Nat} (h : tOK m σ) {x2 x3 : Int} {V : zW} : tR (Sum.map id (tfi σ m)) (f_X9_next_4_b (m : Int) x2 x3 (tw σ m V)) (t_X9_next_4_b x2 x3 V) := by
  unfold f_X9_next_4_b t_X9_next_4_b
  refine te_if ?_ ?_
  · exact te_map (e_X9_next_60 h) (fun r => rfl)
  · refine te_if ?_ ?_
    · exact te_map (e_X9_next_60 h) (fun r => rfl)
    · refine te_gr h (f := 917) rfl ?_
      refine te_ga h rfl (fun v2 => ?_)
      refine te_if ?_ ?_
      · refine te_gr h (f := 916) rfl ?_
        refine te_ga h rfl (fun v4 => ?_)
        refine te_if ?_ ?_
        · exact (e_X9_next_54 h)
        · refine te_gr h (f := 914) rfl ?_
          refine te_ga h rfl (fun v6 => ?_)
          refine te_if ?_ ?_
          · exact (e_X9_next_54 h)
          · exact te_map (e_X9_next_52 h) (fun r => rfl)
      · exact te_map (e_X9_next_23 h) (fun r => rfl)
noncomputable def t_X9_next_4 (x2 x3 : Int) (V : zW) : Option (Int × zW) :=
  zloop (fun s : Int × Int => t_X9_next_4_b s.1 s.2 V) (x2, x3)
theorem e_X9_next_4 {σ : zM} {m : Nat} (h : tOK m σ) {x2 x3 : Int} {V : zW} : tR (tfi σ m) (f_X9_next_4 (m : Int) x2 x3 (tw σ m V)) (t_X9_next_4 x2 x3 V) := by
  unfold f_X9_next_4 t_X9_next_4
  refine te_loop (φ := id) (s := (x2, x3)) (fun s => ?_)
  exact e_X9_next_4_b h
noncomputable def t_X9_next (x1 : Int) (V : zW) : Option (Int × zW) :=
  t_X9_next_4 x1 0 V
theorem e_X9_next {σ : zM} {m : Nat} (h : tOK m σ) {x1 : Int} {V : zW} : tR (tfi σ m) (f_X9_next (m : Int) x1 (tw σ m V)) (t_X9_next x1 V) := by
  unfold f_X9_next t_X9_next
  exact (e_X9_next_4 h)
noncomputable def t_X9_instead_135 (V : zW) : Option (Int × zW) :=
  some ((-3), V)
theorem e_X9_instead_135 {σ : zM} {m : Nat} (h : tOK m σ) {V : zW} : tR (tfi σ m) (f_X9_instead_135  (tw σ m V)) (t_X9_instead_135  V) := by
  unfold f_X9_instead_135 t_X9_instead_135
  exact te_some rfl
noncomputable def t_X9_instead_29 (x2 : Int) (V : zW) : Option (Int × zW) :=
  some (x2, V)
theorem e_X9_instead_29 {σ : zM} {m : Nat} (h : tOK m σ) {x2 : Int} {V : zW} : tR (tfi σ m) (f_X9_instead_29 x2 (tw σ m V)) (t_X9_instead_29 x2 V) := by
  unfold f_X9_instead_29 t_X9_instead_29
  exact te_some rfl
noncomputable def t_X9_instead_129 (x2 x3 : Int) (V : zW) : Option ((Int × Int × zW) ⊕ (Int × zW)) :=
  zlet (zadd x3 1) fun y1 =>
  some (.inl (x2, y1, V))
theorem e_X9_instead_129 {σ : zM} {m : Nat} (h : tOK m σ) {x2 x3 : Int} {V : zW} : tR (Sum.map (fun s => (s.1, s.2.1, tw σ m s.2.2)) (tfi σ m)) (f_X9_instead_129 (m : Int) x2 x3 (tw σ m V)) (t_X9_instead_129 x2 x3 V) := by
  unfold f_X9_instead_129 t_X9_instead_129
  refine te_let (fun y1 => ?_)
  exact te_some rfl
noncomputable def t_X9_instead_123 (x2 x3 : Int) (V : zW) : Option ((Int × Int × zW) ⊕ (Int × zW)) :=
  tci (t_X9_next x2 V) fun v1 V2 =>
  t_X9_instead_129 v1 x3 V2
theorem e_X9_instead_123 {σ : zM} {m : Nat} (h : tOK m σ) {x2 x3 : Int} {V : zW} : tR (Sum.map (fun s => (s.1, s.2.1, tw σ m s.2.2)) (tfi σ m)) (f_X9_instead_123 (m : Int) x2 x3 (tw σ m V)) (t_X9_instead_123 x2 x3 V) := by
  unfold f_X9_instead_123 t_X9_instead_123
  refine te_is h ?_
  refine te_ci (e_X9_next h) (fun v1 V2 => ?_)
  exact (e_X9_instead_129 h)
noncomputable def t_X9_instead_92_b (x2 x3 x4 : Int) (V : zW) : Option ((Int × Int) ⊕ ((Int × Int × zW) ⊕ (Int × zW))) :=
  if 8 ≤ x4 then
    (t_X9_instead_123 x2 x3 V).map (fun r => (.inr r))
  else
    (tga V 914 x2).bind fun v2 =>
    if v2 = 7 then
      (t_X9_instead_123 x2 x3 V).map (fun r => (.inr r))
    else
      (tga V 916 x2).bind fun v4 =>
      zlet (zadd x4 1) fun y5 =>
      some (.inl (v4, y5))
theorem e_X9_instead_92_b {σ : zM} {m : Nat} (h : tOK m σ) {x2 x3 x4 : Int} {V : zW} : tR (Sum.map id (Sum.map (fun s => (s.1, s.2.1, tw σ m s.2.2)) (tfi σ m))) (f_X9_instead_92_b (m : Int) x2 x3 x4 (tw σ m V)) (t_X9_instead_92_b x2 x3 x4 V) := by
  unfold f_X9_instead_92_b t_X9_instead_92_b
  refine te_if ?_ ?_
  · exact te_map (e_X9_instead_123 h) (fun r => rfl)
  · refine te_gr h (f := 914) rfl ?_
    refine te_ga h rfl (fun v2 => ?_)
    refine te_if ?_ ?_
    · exact te_map (e_X9_instead_123 h) (fun r => rfl)
    · refine te_gr h (f := 916) rfl ?_
      refine te_ga h rfl (fun v4 => ?_)
      refine te_let (fun y5 => ?_)
      exact te_some rfl
noncomputable def t_X9_instead_92 (x2 x3 x4 : Int) (V : zW) : Option ((Int × Int × zW) ⊕ (Int × zW)) :=
  zloop (fun s : Int × Int => t_X9_instead_92_b s.1 x3 s.2 V) (x2, x4)
theorem e_X9_instead_92 {σ : zM} {m : Nat} (h : tOK m σ) {x2 x3 x4 : Int} {V : zW} : tR (Sum.map (fun s => (s.1, s.2.1, tw σ m s.2.2)) (tfi σ m)) (f_X9_instead_92 (m : Int) x2 x3 x4 (tw σ m V)) (t_X9_instead_92 x2 x3 x4 V) := by
  unfold f_X9_instead_92 t_X9_instead_92
  refine te_loop (φ := id) (s := (x2, x4)) (fun s => ?_)
  exact e_X9_instead_92_b h

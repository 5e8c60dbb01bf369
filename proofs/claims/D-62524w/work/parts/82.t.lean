set_option maxRecDepth 100000
noncomputable def t_X9_instead_86 (V : zW) : Option (Int × zW) :=
  some ((-2), V)
theorem e_X9_instead_86 {σ : zM} {m : Nat} (h : tOK m σ) {V : zW} : tR (tfi σ m) (f_X9_instead_86  (tw σ m V)) (t_X9_instead_86  V) := by
  unfold f_X9_instead_86 t_X9_instead_86
  exact te_some rfl
noncomputable def t_X9_instead_4_b (x2 x3 : Int) (V : zW) : Option ((Int × Int × zW) ⊕ (Int × zW)) :=
  zlet (V.1 913) fun v1 =>
  if (zmul 2 v1) < x3 then
    (t_X9_instead_135 V).map (fun r => (.inr r))
  else
    if x2 < 0 then
      (t_X9_instead_29 x2 V).map (fun r => (.inr r))
    else
      (tga V 914 x2).bind fun v3 =>
      if 8 ≤ v3 then
        (tga V 914 x2).bind fun v5 =>
        if v5 ≠ 8 then
          (tga V 914 x2).bind fun v7 =>
          if v7 ≠ 10 then
            t_X9_instead_92 x2 x3 0 V
          else
            (tga V 915 x2).bind fun v10 =>
            (tga V 921 x2).bind fun v12 =>
            (tga V 933 (zadd (zmul 8 v10) v12)).bind fun v13 =>
            if 0 ≤ v13 then
              t_X9_instead_129 v13 x3 V
            else
              (t_X9_instead_86 V).map (fun r => (.inr r))
        else
          zlet ((zadd x2 1)) fun y14 =>
          t_X9_instead_129 y14 x3 V
      else
        (t_X9_instead_29 x2 V).map (fun r => (.inr r))
theorem e_X9_instead_4_b {σ : zM} {m : Nat} (h : tOK m σ) {x2 x3 : Int} {V : zW} : tR (Sum.map (fun s => (s.1, s.2.1, tw σ m s.2.2)) (tfi σ m)) (f_X9_instead_4_b (m : Int) x2 x3 (tw σ m V)) (t_X9_instead_4_b x2 x3 V) := by
  unfold f_X9_instead_4_b t_X9_instead_4_b
  refine te_gs h rfl (fun v1 => ?_)
  refine te_if ?_ ?_
  · exact te_map (e_X9_instead_135 h) (fun r => rfl)
  · refine te_if ?_ ?_
    · exact te_map (e_X9_instead_29 h) (fun r => rfl)
    · refine te_gr h (f := 914) rfl ?_
      refine te_ga h rfl (fun v3 => ?_)
      refine te_if ?_ ?_
      · refine te_gr h (f := 914) rfl ?_
        refine te_ga h rfl (fun v5 => ?_)
        refine te_if ?_ ?_
        · refine te_gr h (f := 914) rfl ?_
          refine te_ga h rfl (fun v7 => ?_)
          refine te_if ?_ ?_
          · exact (e_X9_instead_92 h)
          · refine te_gr h (f := 933) rfl ?_
            refine te_gr h (f := 915) rfl ?_
            refine te_ga h rfl (fun v10 => ?_)
            refine te_gr h (f := 921) rfl ?_
            refine te_ga h rfl (fun v12 => ?_)
            refine te_ga h rfl (fun v13 => ?_)
            refine te_if ?_ ?_
            · exact (e_X9_instead_129 h)
            · exact te_map (e_X9_instead_86 h) (fun r => rfl)
        · refine te_let (fun y14 => ?_)
          exact (e_X9_instead_129 h)
      · exact te_map (e_X9_instead_29 h) (fun r => rfl)
noncomputable def t_X9_instead_4 (x2 x3 : Int) (V : zW) : Option (Int × zW) :=
  zloop (fun s : Int × Int × zW => t_X9_instead_4_b s.1 s.2.1 s.2.2) (x2, x3, V)
theorem e_X9_instead_4 {σ : zM} {m : Nat} (h : tOK m σ) {x2 x3 : Int} {V : zW} : tR (tfi σ m) (f_X9_instead_4 (m : Int) x2 x3 (tw σ m V)) (t_X9_instead_4 x2 x3 V) := by
  unfold f_X9_instead_4 t_X9_instead_4
  refine te_loop (φ := (fun s => (s.1, s.2.1, tw σ m s.2.2))) (s := (x2, x3, V)) (fun s => ?_)
  exact e_X9_instead_4_b h
noncomputable def t_X9_instead (x1 : Int) (V : zW) : Option (Int × zW) :=
  t_X9_instead_4 x1 0 V
theorem e_X9_instead {σ : zM} {m : Nat} (h : tOK m σ) {x1 : Int} {V : zW} : tR (tfi σ m) (f_X9_instead (m : Int) x1 (tw σ m V)) (t_X9_instead x1 V) := by
  unfold f_X9_instead t_X9_instead
  exact (e_X9_instead_4 h)
noncomputable def t_X9_jumps_76 (V : zW) : Option (Int × zW) :=
  zgd (z01 1) <|
  some (1, V)
theorem e_X9_jumps_76 {σ : zM} {m : Nat} (h : tOK m σ) {V : zW} : tR (tfi σ m) (f_X9_jumps_76  (tw σ m V)) (t_X9_jumps_76  V) := by
  unfold f_X9_jumps_76 t_X9_jumps_76
  refine te_gd ?_
  exact te_some rfl
noncomputable def t_X9_jumps_58 (x2 : Int) (V : zW) : Option (Int × zW) :=
  (tga V 925 x2).bind fun v2 =>
  twl (us V 904 v2) fun V3 =>
  zgd (z01 0) <|
  some (0, V3)
theorem e_X9_jumps_58 {σ : zM} {m : Nat} (h : tOK m σ) {x2 : Int} {V : zW} : tR (tfi σ m) (f_X9_jumps_58 (m : Int) x2 (tw σ m V)) (t_X9_jumps_58 x2 V) := by
  unfold f_X9_jumps_58 t_X9_jumps_58
  refine te_gr h (f := 925) rfl ?_
  refine te_ga h rfl (fun v2 => ?_)
  refine te_ps h rfl (fun V3 => ?_)
  refine te_gd ?_
  exact te_some rfl
noncomputable def t_X9_jumps_70 (x2 : Int) (V : zW) : Option ((Int × zW) ⊕ (Int × zW)) :=
  zlet (zadd x2 1) fun y1 =>
  some (.inl (y1, V))
theorem e_X9_jumps_70 {σ : zM} {m : Nat} (h : tOK m σ) {x2 : Int} {V : zW} : tR (Sum.map (fun s => (s.1, tw σ m s.2)) (tfi σ m)) (f_X9_jumps_70 (m : Int) x2 (tw σ m V)) (t_X9_jumps_70 x2 V) := by
  unfold f_X9_jumps_70 t_X9_jumps_70
  refine te_let (fun y1 => ?_)
  exact te_some rfl
noncomputable def t_X9_jumps_2_b (x2 : Int) (V : zW) : Option ((Int × zW) ⊕ (Int × zW)) :=
  zlet (V.1 913) fun v1 =>
  if v1 ≤ x2 then
    (t_X9_jumps_76 V).map (fun r => (.inr r))
  else
    (tga V 914 x2).bind fun v3 =>
    if v3 = 10 then
      zlet (V.1 930) fun v5 =>
      (tga V 921 x2).bind fun v7 =>
      (tga V 933 (zadd (zmul 8 v5) v7)).bind fun v8 =>
      if v8 < 0 then
        (t_X9_jumps_58 x2 V).map (fun r => (.inr r))
      else
        tci (t_X9_instead v8 V) fun v9 V10 =>
        if v9 ≠ (-3) then
          t_X9_jumps_70 x2 V10
        else
          (t_X9_jumps_58 x2 V10).map (fun r => (.inr r))
    else
      t_X9_jumps_70 x2 V
theorem e_X9_jumps_2_b {σ : zM} {m : Nat} (h : tOK m σ) {x2 : Int} {V : zW} : tR (Sum.map (fun s => (s.1, tw σ m s.2)) (tfi σ m)) (f_X9_jumps_2_b (m : Int) x2 (tw σ m V)) (t_X9_jumps_2_b x2 V) := by
  unfold f_X9_jumps_2_b t_X9_jumps_2_b
  refine te_gs h rfl (fun v1 => ?_)
  refine te_if ?_ ?_
  · exact te_map (e_X9_jumps_76 h) (fun r => rfl)
  · refine te_gr h (f := 914) rfl ?_
    refine te_ga h rfl (fun v3 => ?_)
    refine te_if ?_ ?_
    · refine te_gr h (f := 933) rfl ?_
      refine te_gs h rfl (fun v5 => ?_)
      refine te_gr h (f := 921) rfl ?_
      refine te_ga h rfl (fun v7 => ?_)
      refine te_ga h rfl (fun v8 => ?_)
      refine te_if ?_ ?_
      · exact te_map (e_X9_jumps_58 h) (fun r => rfl)
      · refine te_is h ?_
        refine te_ci (e_X9_instead h) (fun v9 V10 => ?_)
        refine te_if ?_ ?_
        · exact (e_X9_jumps_70 h)
        · exact te_map (e_X9_jumps_58 h) (fun r => rfl)
    · exact (e_X9_jumps_70 h)
noncomputable def t_X9_jumps_2 (x2 : Int) (V : zW) : Option (Int × zW) :=
  zloop (fun s : Int × zW => t_X9_jumps_2_b s.1 s.2) (x2, V)
theorem e_X9_jumps_2 {σ : zM} {m : Nat} (h : tOK m σ) {x2 : Int} {V : zW} : tR (tfi σ m) (f_X9_jumps_2 (m : Int) x2 (tw σ m V)) (t_X9_jumps_2 x2 V) := by
  unfold f_X9_jumps_2 t_X9_jumps_2
  refine te_loop (φ := (fun s => (s.1, tw σ m s.2))) (s := (x2, V)) (fun s => ?_)
  exact e_X9_jumps_2_b h
noncomputable def t_X9_jumps (x1 : Int) (V : zW) : Option (Int × zW) :=
  t_X9_jumps_2 x1 V
theorem e_X9_jumps {σ : zM} {m : Nat} (h : tOK m σ) {x1 : Int} {V : zW} : tR (tfi σ m) (f_X9_jumps (m : Int) x1 (tw σ m V)) (t_X9_jumps x1 V) := by
  unfold f_X9_jumps t_X9_jumps
  exact (e_X9_jumps_2 h)
noncomputable def t_X9_body_326 (V : zW) : Option (Int × zW) :=
  tci (t_X9_fail V) fun v1 V2 =>
  zgd (z01 v1) <|
  some (v1, V2)
theorem e_X9_body_326 {σ : zM} {m : Nat} (h : tOK m σ) {V : zW} : tR (tfi σ m) (f_X9_body_326 (m : Int) (tw σ m V)) (t_X9_body_326  V) := by
  unfold f_X9_body_326 t_X9_body_326
  refine te_is h ?_
  refine te_ci (e_X9_fail h) (fun v1 V2 => ?_)
  refine te_gd ?_
  exact te_some rfl
noncomputable def t_X9_body_320 (x1 x2 : Int) (V : zW) : Option ((Int × zW) ⊕ (Int × zW)) :=
  zlet (zadd x2 1) fun y1 =>
  some (.inl (y1, V))
theorem e_X9_body_320 {σ : zM} {m : Nat} (h : tOK m σ) {x1 x2 : Int} {V : zW} : tR (Sum.map (fun s => (s.1, tw σ m s.2)) (tfi σ m)) (f_X9_body_320 (m : Int) x1 x2 (tw σ m V)) (t_X9_body_320 x1 x2 V) := by
  unfold f_X9_body_320 t_X9_body_320
  refine te_let (fun y1 => ?_)
  exact te_some rfl
noncomputable def t_X9_body_310 (x1 x2 : Int) (V : zW) : Option ((Int × zW) ⊕ (Int × zW)) :=
  zlet (V.1 903) fun v1 =>
  twl (us V 903 (zadd v1 1)) fun V2 =>
  t_X9_body_320 x1 x2 V2
theorem e_X9_body_310 {σ : zM} {m : Nat} (h : tOK m σ) {x1 x2 : Int} {V : zW} : tR (Sum.map (fun s => (s.1, tw σ m s.2)) (tfi σ m)) (f_X9_body_310 (m : Int) x1 x2 (tw σ m V)) (t_X9_body_310 x1 x2 V) := by
  unfold f_X9_body_310 t_X9_body_310
  refine te_gs h rfl (fun v1 => ?_)
  refine te_ps h rfl (fun V2 => ?_)
  exact (e_X9_body_320 h)
noncomputable def t_X9_body_305 (V : zW) : Option (Int × zW) :=
  tci (t_X9_fail V) fun v1 V2 =>
  zgd (z01 v1) <|
  some (v1, V2)
theorem e_X9_body_305 {σ : zM} {m : Nat} (h : tOK m σ) {V : zW} : tR (tfi σ m) (f_X9_body_305 (m : Int) (tw σ m V)) (t_X9_body_305  V) := by
  unfold f_X9_body_305 t_X9_body_305
  refine te_is h ?_
  refine te_ci (e_X9_fail h) (fun v1 V2 => ?_)
  refine te_gd ?_
  exact te_some rfl
noncomputable def t_X9_body_291 (x1 x2 x5 : Int) (V : zW) : Option ((Int × zW) ⊕ (Int × zW)) :=
  if x5 ≠ 0 then
    t_X9_body_310 x1 x2 V
  else
    tci (t_X9_here V) fun v1 V2 =>
    if v1 = 59 then
      t_X9_body_310 x1 x2 V2
    else
      (t_X9_body_305 V2).map (fun r => (.inr r))
theorem e_X9_body_291 {σ : zM} {m : Nat} (h : tOK m σ) {x1 x2 x5 : Int} {V : zW} : tR (Sum.map (fun s => (s.1, tw σ m s.2)) (tfi σ m)) (f_X9_body_291 (m : Int) x1 x2 x5 (tw σ m V)) (t_X9_body_291 x1 x2 x5 V) := by
  unfold f_X9_body_291 t_X9_body_291
  refine te_if ?_ ?_
  · exact (e_X9_body_310 h)
  · refine te_is h ?_
    refine te_ci (e_X9_here h) (fun v1 V2 => ?_)
    refine te_if ?_ ?_
    · exact (e_X9_body_310 h)
    · exact te_map (e_X9_body_305 h) (fun r => rfl)
noncomputable def t_X9_body_274 (x1 x2 t0 : Int) (V : zW) : Option ((Int × zW) ⊕ (Int × zW)) :=
  if t0 = 0 then
    t_X9_body_291 x1 x2 t0 V
  else
    zlet (V.1 938) fun v2 =>
    (tpa V 941 v2 (-1)).bind fun V3 =>
    t_X9_body_291 x1 x2 t0 V3
theorem e_X9_body_274 {σ : zM} {m : Nat} (h : tOK m σ) {x1 x2 t0 : Int} {V : zW} : tR (Sum.map (fun s => (s.1, tw σ m s.2)) (tfi σ m)) (f_X9_body_274 (m : Int) x1 x2 t0 (tw σ m V)) (t_X9_body_274 x1 x2 t0 V) := by
  unfold f_X9_body_274 t_X9_body_274
  refine te_if ?_ ?_
  · exact (e_X9_body_291 h)
  · refine te_gr h (f := 941) rfl ?_
    refine te_gs h rfl (fun v2 => ?_)
    refine te_pa h rfl (fun V3 => ?_)
    exact (e_X9_body_291 h)
noncomputable def t_X9_body_273 (x1 x2 : Int) (V : zW) : Option ((Int × zW) ⊕ (Int × zW)) :=
  t_X9_body_274 x1 x2 0 V
theorem e_X9_body_273 {σ : zM} {m : Nat} (h : tOK m σ) {x1 x2 : Int} {V : zW} : tR (Sum.map (fun s => (s.1, tw σ m s.2)) (tfi σ m)) (f_X9_body_273 (m : Int) x1 x2 (tw σ m V)) (t_X9_body_273 x1 x2 V) := by
  unfold f_X9_body_273 t_X9_body_273
  exact (e_X9_body_274 h)
noncomputable def t_X9_body_243 (x1 x2 : Int) (V : zW) : Option ((Int × zW) ⊕ (Int × zW)) :=
  tci (t_X9_here V) fun v1 V2 =>
  if v1 ≠ 124 then
    t_X9_body_273 x1 x2 V2
  else
    zlet (V2.1 938) fun v4 =>
    (tga V2 939 v4).bind fun v5 =>
    tci (t_X9_in v5 1 2 V2) fun v6 V7 =>
    if v6 = 0 then
      t_X9_body_273 x1 x2 V7
    else
      t_X9_body_274 x1 x2 1 V7
theorem e_X9_body_243 {σ : zM} {m : Nat} (h : tOK m σ) {x1 x2 : Int} {V : zW} : tR (Sum.map (fun s => (s.1, tw σ m s.2)) (tfi σ m)) (f_X9_body_243 (m : Int) x1 x2 (tw σ m V)) (t_X9_body_243 x1 x2 V) := by
  unfold f_X9_body_243 t_X9_body_243
  refine te_is h ?_
  refine te_ci (e_X9_here h) (fun v1 V2 => ?_)
  refine te_if ?_ ?_
  · exact (e_X9_body_273 h)
  · refine te_gr h (f := 939) rfl ?_
    refine te_gs h rfl (fun v4 => ?_)
    refine te_ga h rfl (fun v5 => ?_)
    refine te_ci (e_X9_in h) (fun v6 V7 => ?_)
    refine te_if ?_ ?_
    · exact (e_X9_body_273 h)
    · exact (e_X9_body_274 h)
noncomputable def t_X9_body_227 (x1 : Int) (V : zW) : Option (Int × zW) :=
  zlet (V.1 903) fun v1 =>
  twl (us V 903 (zadd v1 1)) fun V2 =>
  tci (t_X9_jumps x1 V2) fun v3 V4 =>
  zgd (z01 v3) <|
  some (v3, V4)
theorem e_X9_body_227 {σ : zM} {m : Nat} (h : tOK m σ) {x1 : Int} {V : zW} : tR (tfi σ m) (f_X9_body_227 (m : Int) x1 (tw σ m V)) (t_X9_body_227 x1 V) := by
  unfold f_X9_body_227 t_X9_body_227
  refine te_gs h rfl (fun v1 => ?_)
  refine te_ps h rfl (fun V2 => ?_)
  refine te_is h ?_
  refine te_ci (e_X9_jumps h) (fun v3 V4 => ?_)
  refine te_gd ?_
  exact te_some rfl
noncomputable def t_X9_body_211 (x1 x2 : Int) (V : zW) : Option ((Int × zW) ⊕ (Int × zW)) :=
  tci (t_X9_here V) fun v1 V2 =>
  if v1 ≠ 125 then
    t_X9_body_243 x1 x2 V2
  else
    zlet (V2.1 938) fun v3 =>
    if v3 ≠ 0 then
      t_X9_body_243 x1 x2 V2
    else
      (t_X9_body_227 x1 V2).map (fun r => (.inr r))
theorem e_X9_body_211 {σ : zM} {m : Nat} (h : tOK m σ) {x1 x2 : Int} {V : zW} : tR (Sum.map (fun s => (s.1, tw σ m s.2)) (tfi σ m)) (f_X9_body_211 (m : Int) x1 x2 (tw σ m V)) (t_X9_body_211 x1 x2 V) := by
  unfold f_X9_body_211 t_X9_body_211
  refine te_is h ?_
  refine te_ci (e_X9_here h) (fun v1 V2 => ?_)
  refine te_if ?_ ?_
  · exact (e_X9_body_243 h)
  · refine te_gs h rfl (fun v3 => ?_)
    refine te_if ?_ ?_
    · exact (e_X9_body_243 h)
    · exact te_map (e_X9_body_227 h) (fun r => rfl)
noncomputable def t_X9_body_204 (x1 x2 x4 t0 t1 : Int) (V : zW) : Option ((Int × zW) ⊕ ((Int × zW) ⊕ (Int × zW))) :=
  twl (us V 903 (zadd t1 t0)) fun V1 =>
  some (.inl (x4, V1))
theorem e_X9_body_204 {σ : zM} {m : Nat} (h : tOK m σ) {x1 x2 x4 t0 t1 : Int} {V : zW} : tR (Sum.map (fun s => (s.1, tw σ m s.2)) (Sum.map (fun s => (s.1, tw σ m s.2)) (tfi σ m))) (f_X9_body_204 (m : Int) x1 x2 x4 t0 t1 (m : Int) (tw σ m V)) (t_X9_body_204 x1 x2 x4 t0 t1 V) := by
  unfold f_X9_body_204 t_X9_body_204
  refine te_ps h rfl (fun V1 => ?_)
  exact te_some rfl
noncomputable def t_X9_body_185 (x1 x2 x4 t0 t1 : Int) (V : zW) : Option ((Int × zW) ⊕ ((Int × zW) ⊕ (Int × zW))) :=
  twl (us V 938 (zsub t1 t0)) fun V1 =>
  zlet (V1.1 903) fun v2 =>
  if x4 = 0 then
    t_X9_body_204 x1 x2 x4 0 v2 V1
  else
    t_X9_body_204 x1 x2 x4 1 v2 V1
theorem e_X9_body_185 {σ : zM} {m : Nat} (h : tOK m σ) {x1 x2 x4 t0 t1 : Int} {V : zW} : tR (Sum.map (fun s => (s.1, tw σ m s.2)) (Sum.map (fun s => (s.1, tw σ m s.2)) (tfi σ m))) (f_X9_body_185 (m : Int) x1 x2 x4 t0 t1 (m : Int) (tw σ m V)) (t_X9_body_185 x1 x2 x4 t0 t1 V) := by
  unfold f_X9_body_185 t_X9_body_185
  refine te_ps h rfl (fun V1 => ?_)
  refine te_gs h rfl (fun v2 => ?_)
  refine te_if ?_ ?_
  · exact (e_X9_body_204 h)
  · exact (e_X9_body_204 h)
noncomputable def t_X9_body_168 (x1 x2 t0 : Int) (V : zW) : Option ((Int × zW) ⊕ ((Int × zW) ⊕ (Int × zW))) :=
  zlet (V.1 938) fun v1 =>
  if t0 = 0 then
    t_X9_body_185 x1 x2 t0 0 v1 V
  else
    t_X9_body_185 x1 x2 t0 1 v1 V
theorem e_X9_body_168 {σ : zM} {m : Nat} (h : tOK m σ) {x1 x2 t0 : Int} {V : zW} : tR (Sum.map (fun s => (s.1, tw σ m s.2)) (Sum.map (fun s => (s.1, tw σ m s.2)) (tfi σ m))) (f_X9_body_168 (m : Int) x1 x2 t0 (tw σ m V)) (t_X9_body_168 x1 x2 t0 V) := by
  unfold f_X9_body_168 t_X9_body_168
  refine te_gs h rfl (fun v1 => ?_)
  refine te_if ?_ ?_
  · exact (e_X9_body_185 h)
  · exact (e_X9_body_185 h)
noncomputable def t_X9_body_167 (x1 x2 : Int) (V : zW) : Option ((Int × zW) ⊕ ((Int × zW) ⊕ (Int × zW))) :=
  t_X9_body_168 x1 x2 0 V
theorem e_X9_body_167 {σ : zM} {m : Nat} (h : tOK m σ) {x1 x2 : Int} {V : zW} : tR (Sum.map (fun s => (s.1, tw σ m s.2)) (Sum.map (fun s => (s.1, tw σ m s.2)) (tfi σ m))) (f_X9_body_167 (m : Int) x1 x2 (tw σ m V)) (t_X9_body_167 x1 x2 V) := by
  unfold f_X9_body_167 t_X9_body_167
  exact (e_X9_body_168 h)
noncomputable def t_X9_body_163 (x1 x2 : Int) (V : zW) : Option ((Int × zW) ⊕ ((Int × zW) ⊕ (Int × zW))) :=
  t_X9_body_168 x1 x2 1 V
theorem e_X9_body_163 {σ : zM} {m : Nat} (h : tOK m σ) {x1 x2 : Int} {V : zW} : tR (Sum.map (fun s => (s.1, tw σ m s.2)) (Sum.map (fun s => (s.1, tw σ m s.2)) (tfi σ m))) (f_X9_body_163 (m : Int) x1 x2 (tw σ m V)) (t_X9_body_163 x1 x2 V) := by
  unfold f_X9_body_163 t_X9_body_163
  exact (e_X9_body_168 h)
noncomputable def t_X9_body_141 (x1 x2 : Int) (V : zW) : Option ((Int × zW) ⊕ ((Int × zW) ⊕ (Int × zW))) :=
  tci (t_X9_here V) fun v1 V2 =>
  if v1 ≠ 62 then
    t_X9_body_167 x1 x2 V2
  else
    zlet (V2.1 938) fun v4 =>
    (tga V2 939 v4).bind fun v5 =>
    if v5 ≠ 3 then
      t_X9_body_167 x1 x2 V2
    else
      t_X9_body_163 x1 x2 V2
theorem e_X9_body_141 {σ : zM} {m : Nat} (h : tOK m σ) {x1 x2 : Int} {V : zW} : tR (Sum.map (fun s => (s.1, tw σ m s.2)) (Sum.map (fun s => (s.1, tw σ m s.2)) (tfi σ m))) (f_X9_body_141 (m : Int) x1 x2 (tw σ m V)) (t_X9_body_141 x1 x2 V) := by
  unfold f_X9_body_141 t_X9_body_141
  refine te_is h ?_
  refine te_ci (e_X9_here h) (fun v1 V2 => ?_)
  refine te_if ?_ ?_
  · exact (e_X9_body_167 h)
  · refine te_gr h (f := 939) rfl ?_
    refine te_gs h rfl (fun v4 => ?_)
    refine te_ga h rfl (fun v5 => ?_)
    refine te_if ?_ ?_
    · exact (e_X9_body_167 h)
    · exact (e_X9_body_163 h)
noncomputable def t_X9_body_110_b (x1 x2 x4 : Int) (V : zW) : Option ((Int × zW) ⊕ ((Int × zW) ⊕ (Int × zW))) :=
  if x4 = 0 then
    (t_X9_body_211 x1 x2 V).map (fun r => (.inr r))
  else
    tci (t_X9_here V) fun v1 V2 =>
    if v1 ≠ 93 then
      t_X9_body_141 x1 x2 V2
    else
      zlet (V2.1 938) fun v4 =>
      (tga V2 939 v4).bind fun v5 =>
      tci (t_X9_in v5 1 2 V2) fun v6 V7 =>
      if v6 ≠ 0 then
        t_X9_body_163 x1 x2 V7
      else
        t_X9_body_141 x1 x2 V7
theorem e_X9_body_110_b {σ : zM} {m : Nat} (h : tOK m σ) {x1 x2 x4 : Int} {V : zW} : tR (Sum.map (fun s => (s.1, tw σ m s.2)) (Sum.map (fun s => (s.1, tw σ m s.2)) (tfi σ m))) (f_X9_body_110_b (m : Int) x1 x2 x4 (tw σ m V)) (t_X9_body_110_b x1 x2 x4 V) := by
  unfold f_X9_body_110_b t_X9_body_110_b
  refine te_if ?_ ?_
  · exact te_map (e_X9_body_211 h) (fun r => rfl)
  · refine te_is h ?_
    refine te_ci (e_X9_here h) (fun v1 V2 => ?_)
    refine te_if ?_ ?_
    · exact (e_X9_body_141 h)
    · refine te_gr h (f := 939) rfl ?_
      refine te_gs h rfl (fun v4 => ?_)
      refine te_ga h rfl (fun v5 => ?_)
      refine te_ci (e_X9_in h) (fun v6 V7 => ?_)
      refine te_if ?_ ?_
      · exact (e_X9_body_163 h)
      · exact (e_X9_body_141 h)
noncomputable def t_X9_body_110 (x1 x2 x4 : Int) (V : zW) : Option ((Int × zW) ⊕ (Int × zW)) :=
  zloop (fun s : Int × zW => t_X9_body_110_b x1 x2 s.1 s.2) (x4, V)
theorem e_X9_body_110 {σ : zM} {m : Nat} (h : tOK m σ) {x1 x2 x4 : Int} {V : zW} : tR (Sum.map (fun s => (s.1, tw σ m s.2)) (tfi σ m)) (f_X9_body_110 (m : Int) x1 x2 x4 (tw σ m V)) (t_X9_body_110 x1 x2 x4 V) := by
  unfold f_X9_body_110 t_X9_body_110
  refine te_loop (φ := (fun s => (s.1, tw σ m s.2))) (s := (x4, V)) (fun s => ?_)
  exact e_X9_body_110_b h
noncomputable def t_X9_body_94 (V : zW) : Option (Int × zW) :=
  zgd (z01 0) <|
  some (0, V)
theorem e_X9_body_94 {σ : zM} {m : Nat} (h : tOK m σ) {V : zW} : tR (tfi σ m) (f_X9_body_94  (tw σ m V)) (t_X9_body_94  V) := by
  unfold f_X9_body_94 t_X9_body_94
  refine te_gd ?_
  exact te_some rfl
noncomputable def t_X9_body_82 (x1 x2 : Int) (V : zW) : Option ((Int × zW) ⊕ (Int × zW)) :=
  zlet (V.1 938) fun v1 =>
  tci (t_X9_statement V) fun v2 V3 =>
  if v2 ≠ 0 then
    zlet (V3.1 938) fun v4 =>
    if v4 ≤ v1 then
      t_X9_body_110 x1 x2 1 V3
    else
      t_X9_body_320 x1 x2 V3
  else
    (t_X9_body_94 V3).map (fun r => (.inr r))
theorem e_X9_body_82 {σ : zM} {m : Nat} (h : tOK m σ) {x1 x2 : Int} {V : zW} : tR (Sum.map (fun s => (s.1, tw σ m s.2)) (tfi σ m)) (f_X9_body_82 (m : Int) x1 x2 (tw σ m V)) (t_X9_body_82 x1 x2 V) := by
  unfold f_X9_body_82 t_X9_body_82
  refine te_gs h rfl (fun v1 => ?_)
  refine te_is h ?_
  refine te_ci (e_X9_statement h) (fun v2 V3 => ?_)
  refine te_if ?_ ?_
  · refine te_gs h rfl (fun v4 => ?_)
    refine te_if ?_ ?_
    · exact (e_X9_body_110 h)
    · exact (e_X9_body_320 h)
  · exact te_map (e_X9_body_94 h) (fun r => rfl)
noncomputable def t_X9_body_80 (V : zW) : Option (Int × zW) :=
  zgd (z01 0) <|
  some (0, V)
theorem e_X9_body_80 {σ : zM} {m : Nat} (h : tOK m σ) {V : zW} : tR (tfi σ m) (f_X9_body_80  (tw σ m V)) (t_X9_body_80  V) := by
  unfold f_X9_body_80 t_X9_body_80
  refine te_gd ?_
  exact te_some rfl
noncomputable def t_X9_body_64_b (x1 x2 : Int) (V : zW) : Option ((zW) ⊕ ((Int × zW) ⊕ (Int × zW))) :=
  tci (t_X9_here V) fun v1 V2 =>
  if v1 ≠ 58 then
    (t_X9_body_82 x1 x2 V2).map (fun r => (.inr r))
  else
    tci (t_X9_label V2) fun v3 V4 =>
    if v3 ≠ 0 then
      some (.inl V4)
    else
      (t_X9_body_80 V4).map (fun r => (.inr (.inr r)))
theorem e_X9_body_64_b {σ : zM} {m : Nat} (h : tOK m σ) {x1 x2 : Int} {V : zW} : tR (Sum.map (tw σ m) (Sum.map (fun s => (s.1, tw σ m s.2)) (tfi σ m))) (f_X9_body_64_b (m : Int) x1 x2 (tw σ m V)) (t_X9_body_64_b x1 x2 V) := by
  unfold f_X9_body_64_b t_X9_body_64_b
  refine te_is h ?_
  refine te_ci (e_X9_here h) (fun v1 V2 => ?_)
  refine te_if ?_ ?_
  · exact te_map (e_X9_body_82 h) (fun r => rfl)
  · refine te_is h ?_
    refine te_ci (e_X9_label h) (fun v3 V4 => ?_)
    refine te_if ?_ ?_
    · exact te_some rfl
    · exact te_map (e_X9_body_80 h) (fun r => rfl)
noncomputable def t_X9_body_64 (x1 x2 : Int) (V : zW) : Option ((Int × zW) ⊕ (Int × zW)) :=
  zloop (fun s : zW => t_X9_body_64_b x1 x2 s) V
theorem e_X9_body_64 {σ : zM} {m : Nat} (h : tOK m σ) {x1 x2 : Int} {V : zW} : tR (Sum.map (fun s => (s.1, tw σ m s.2)) (tfi σ m)) (f_X9_body_64 (m : Int) x1 x2 (tw σ m V)) (t_X9_body_64 x1 x2 V) := by
  unfold f_X9_body_64 t_X9_body_64
  refine te_loop (φ := (tw σ m)) (s := V) (fun s => ?_)
  exact e_X9_body_64_b h
noncomputable def t_X9_body_56_b (x1 x2 : Int) (V : zW) : Option ((Int × zW) ⊕ (Int × zW)) :=
  zlet (V.1 901) fun v1 =>
  if v1 < x2 then
    (t_X9_body_326 V).map (fun r => (.inr r))
  else
    t_X9_body_64 x1 x2 V
theorem e_X9_body_56_b {σ : zM} {m : Nat} (h : tOK m σ) {x1 x2 : Int} {V : zW} : tR (Sum.map (fun s => (s.1, tw σ m s.2)) (tfi σ m)) (f_X9_body_56_b (m : Int) x1 x2 (tw σ m V)) (t_X9_body_56_b x1 x2 V) := by
  unfold f_X9_body_56_b t_X9_body_56_b
  refine te_gs h rfl (fun v1 => ?_)
  refine te_if ?_ ?_
  · exact te_map (e_X9_body_326 h) (fun r => rfl)
  · exact (e_X9_body_64 h)
noncomputable def t_X9_body_56 (x1 x2 : Int) (V : zW) : Option (Int × zW) :=
  zloop (fun s : Int × zW => t_X9_body_56_b x1 s.1 s.2) (x2, V)
theorem e_X9_body_56 {σ : zM} {m : Nat} (h : tOK m σ) {x1 x2 : Int} {V : zW} : tR (tfi σ m) (f_X9_body_56 (m : Int) x1 x2 (tw σ m V)) (t_X9_body_56 x1 x2 V) := by
  unfold f_X9_body_56 t_X9_body_56
  refine te_loop (φ := (fun s => (s.1, tw σ m s.2))) (s := (x2, V)) (fun s => ?_)
  exact e_X9_body_56_b h
noncomputable def t_X9_body (V : zW) : Option (Int × zW) :=
  zlet (V.1 913) fun v1 =>
  twl (us V 938 0) fun V2 =>
  (tpa V2 939 0 0).bind fun V4 =>
  (tpa V4 940 0 (-1)).bind fun V6 =>
  (tpa V6 941 0 (-1)).bind fun V8 =>
  zlet (V8.1 930) fun v10 =>
  (tpa V8 931 v10 0).bind fun V11 =>
  zlet (V11.1 930) fun v13 =>
  zlet (V11.1 913) fun v14 =>
  (tpa V11 932 v13 v14).bind fun V15 =>
  t_X9_body_56 v1 0 V15
theorem e_X9_body {σ : zM} {m : Nat} (h : tOK m σ) {V : zW} : tR (tfi σ m) (f_X9_body (m : Int) (tw σ m V)) (t_X9_body  V) := by
  unfold f_X9_body t_X9_body
  refine te_gs h rfl (fun v1 => ?_)
  refine te_ps h rfl (fun V2 => ?_)
  refine te_gr h (f := 939) rfl ?_
  refine te_pa h rfl (fun V4 => ?_)
  refine te_gr h (f := 940) rfl ?_
  refine te_pa h rfl (fun V6 => ?_)
  refine te_gr h (f := 941) rfl ?_
  refine te_pa h rfl (fun V8 => ?_)
  refine te_gr h (f := 931) rfl ?_
  refine te_gs h rfl (fun v10 => ?_)
  refine te_pa h rfl (fun V11 => ?_)
  refine te_gr h (f := 932) rfl ?_
  refine te_gs h rfl (fun v13 => ?_)
  refine te_gs h rfl (fun v14 => ?_)
  refine te_pa h rfl (fun V15 => ?_)
  exact (e_X9_body_56 h)
noncomputable def t_X9_wholeModel_184 (t0 : Int) (V : zW) : Option (Int × zW) :=
  zgd (z01 t0) <|
  some (t0, V)
theorem e_X9_wholeModel_184 {σ : zM} {m : Nat} (h : tOK m σ) {t0 : Int} {V : zW} : tR (tfi σ m) (f_X9_wholeModel_184 t0 (tw σ m V)) (t_X9_wholeModel_184 t0 V) := by
  unfold f_X9_wholeModel_184 t_X9_wholeModel_184
  refine te_gd ?_
  exact te_some rfl
noncomputable def t_X9_wholeModel_179 (V : zW) : Option (Int × zW) :=
  t_X9_wholeModel_184 1 V
theorem e_X9_wholeModel_179 {σ : zM} {m : Nat} (h : tOK m σ) {V : zW} : tR (tfi σ m) (f_X9_wholeModel_179  (tw σ m V)) (t_X9_wholeModel_179  V) := by
  unfold f_X9_wholeModel_179 t_X9_wholeModel_179
  exact (e_X9_wholeModel_184 h)
noncomputable def t_X9_wholeModel_161 (V : zW) : Option (Int × zW) :=
  zlet (V.1 903) fun v1 =>
  zlet (V.1 901) fun v2 =>
  if v1 = v2 then
    t_X9_wholeModel_179 V
  else
    tci (t_X9_fail V) fun v3 V4 =>
    if v3 = 0 then
      t_X9_wholeModel_184 0 V4
    else
      t_X9_wholeModel_179 V4
theorem e_X9_wholeModel_161 {σ : zM} {m : Nat} (h : tOK m σ) {V : zW} : tR (tfi σ m) (f_X9_wholeModel_161 (m : Int) (tw σ m V)) (t_X9_wholeModel_161  V) := by
  unfold f_X9_wholeModel_161 t_X9_wholeModel_161
  refine te_gs h rfl (fun v1 => ?_)
  refine te_gs h rfl (fun v2 => ?_)
  refine te_if ?_ ?_
  · exact (e_X9_wholeModel_179 h)
  · refine te_is h ?_
    refine te_ci (e_X9_fail h) (fun v3 V4 => ?_)
    refine te_if ?_ ?_
    · exact (e_X9_wholeModel_184 h)
    · exact (e_X9_wholeModel_179 h)
noncomputable def t_X9_wholeModel_146 (V : zW) : Option (Int × zW) :=
  zgd (z01 0) <|
  some (0, V)
theorem e_X9_wholeModel_146 {σ : zM} {m : Nat} (h : tOK m σ) {V : zW} : tR (tfi σ m) (f_X9_wholeModel_146  (tw σ m V)) (t_X9_wholeModel_146  V) := by
  unfold f_X9_wholeModel_146 t_X9_wholeModel_146
  refine te_gd ?_
  exact te_some rfl
noncomputable def t_X9_wholeModel_124 (V : zW) : Option (Int × zW) :=
  tci (t_X9_fail V) fun v1 V2 =>
  zgd (z01 v1) <|
  some (v1, V2)
theorem e_X9_wholeModel_124 {σ : zM} {m : Nat} (h : tOK m σ) {V : zW} : tR (tfi σ m) (f_X9_wholeModel_124 (m : Int) (tw σ m V)) (t_X9_wholeModel_124  V) := by
  unfold f_X9_wholeModel_124 t_X9_wholeModel_124
  refine te_is h ?_
  refine te_ci (e_X9_fail h) (fun v1 V2 => ?_)
  refine te_gd ?_
  exact te_some rfl
noncomputable def t_X9_wholeModel_107_b (V : zW) : Option ((zW) ⊕ (Int × zW)) :=
  tci (t_X9_here V) fun v1 V2 =>
  if v1 ≠ 123 then
    (t_X9_wholeModel_161 V2).map (fun r => (.inr r))
  else
    zlet (V2.1 930) fun v3 =>
    if v3 ≠ 4 then
      zlet (V2.1 903) fun v4 =>
      twl (us V2 903 (zadd v4 1)) fun V5 =>
      tci (t_X9_body V5) fun v6 V7 =>
      if v6 ≠ 0 then
        zlet (V7.1 930) fun v8 =>
        twl (us V7 930 (zadd v8 1)) fun V9 =>
        some (.inl V9)
      else
        (t_X9_wholeModel_146 V7).map (fun r => (.inr r))
    else
      (t_X9_wholeModel_124 V2).map (fun r => (.inr r))
theorem e_X9_wholeModel_107_b {σ : zM} {m : Nat} (h : tOK m σ) {V : zW} : tR (Sum.map (tw σ m) (tfi σ m)) (f_X9_wholeModel_107_b (m : Int) (tw σ m V)) (t_X9_wholeModel_107_b  V) := by
  unfold f_X9_wholeModel_107_b t_X9_wholeModel_107_b
  refine te_is h ?_
  refine te_ci (e_X9_here h) (fun v1 V2 => ?_)
  refine te_if ?_ ?_
  · exact te_map (e_X9_wholeModel_161 h) (fun r => rfl)
  · refine te_gs h rfl (fun v3 => ?_)
    refine te_if ?_ ?_
    · refine te_gs h rfl (fun v4 => ?_)
      refine te_ps h rfl (fun V5 => ?_)
      refine te_is h ?_
      refine te_ci (e_X9_body h) (fun v6 V7 => ?_)
      refine te_if ?_ ?_
      · refine te_gs h rfl (fun v8 => ?_)
        refine te_ps h rfl (fun V9 => ?_)
        exact te_some rfl
      · exact te_map (e_X9_wholeModel_146 h) (fun r => rfl)
    · exact te_map (e_X9_wholeModel_124 h) (fun r => rfl)
noncomputable def t_X9_wholeModel_107 (V : zW) : Option (Int × zW) :=
  zloop (fun s : zW => t_X9_wholeModel_107_b  s) V
theorem e_X9_wholeModel_107 {σ : zM} {m : Nat} (h : tOK m σ) {V : zW} : tR (tfi σ m) (f_X9_wholeModel_107 (m : Int) (tw σ m V)) (t_X9_wholeModel_107  V) := by
  unfold f_X9_wholeModel_107 t_X9_wholeModel_107
  refine te_loop (φ := (tw σ m)) (s := V) (fun s => ?_)
  exact e_X9_wholeModel_107_b h
noncomputable def t_X9_wholeModel_105 (V : zW) : Option (Int × zW) :=
  zgd (z01 0) <|
  some (0, V)
theorem e_X9_wholeModel_105 {σ : zM} {m : Nat} (h : tOK m σ) {V : zW} : tR (tfi σ m) (f_X9_wholeModel_105  (tw σ m V)) (t_X9_wholeModel_105  V) := by
  unfold f_X9_wholeModel_105 t_X9_wholeModel_105
  refine te_gd ?_
  exact te_some rfl
noncomputable def t_X9_wholeModel_89_b (V : zW) : Option ((zW) ⊕ (Int × zW)) :=
  tci (t_X9_here V) fun v1 V2 =>
  if v1 = 123 then
    (t_X9_wholeModel_107 V2).map (fun r => (.inr r))
  else
    tci (t_X9_declaration V2) fun v3 V4 =>
    if v3 ≠ 0 then
      some (.inl V4)
    else
      (t_X9_wholeModel_105 V4).map (fun r => (.inr r))
theorem e_X9_wholeModel_89_b {σ : zM} {m : Nat} (h : tOK m σ) {V : zW} : tR (Sum.map (tw σ m) (tfi σ m)) (f_X9_wholeModel_89_b (m : Int) (tw σ m V)) (t_X9_wholeModel_89_b  V) := by
  unfold f_X9_wholeModel_89_b t_X9_wholeModel_89_b
  refine te_is h ?_
  refine te_ci (e_X9_here h) (fun v1 V2 => ?_)
  refine te_if ?_ ?_
  · exact te_map (e_X9_wholeModel_107 h) (fun r => rfl)
  · refine te_is h ?_
    refine te_ci (e_X9_declaration h) (fun v3 V4 => ?_)
    refine te_if ?_ ?_
    · exact te_some rfl
    · exact te_map (e_X9_wholeModel_105 h) (fun r => rfl)
noncomputable def t_X9_wholeModel_89 (V : zW) : Option (Int × zW) :=
  zloop (fun s : zW => t_X9_wholeModel_89_b  s) V
theorem e_X9_wholeModel_89 {σ : zM} {m : Nat} (h : tOK m σ) {V : zW} : tR (tfi σ m) (f_X9_wholeModel_89 (m : Int) (tw σ m V)) (t_X9_wholeModel_89  V) := by
  unfold f_X9_wholeModel_89 t_X9_wholeModel_89
  refine te_loop (φ := (tw σ m)) (s := V) (fun s => ?_)
  exact e_X9_wholeModel_89_b h
noncomputable def t_X9_wholeModel_70_b (x1 : Int) (V : zW) : Option ((Int × zW) ⊕ (Int × zW)) :=
  if 32 ≤ x1 then
    (t_X9_wholeModel_89 V).map (fun r => (.inr r))
  else
    (tpa V 933 x1 (-1)).bind fun V2 =>
    zlet (zadd x1 1) fun y3 =>
    some (.inl (y3, V2))
theorem e_X9_wholeModel_70_b {σ : zM} {m : Nat} (h : tOK m σ) {x1 : Int} {V : zW} : tR (Sum.map (fun s => (s.1, tw σ m s.2)) (tfi σ m)) (f_X9_wholeModel_70_b (m : Int) x1 (tw σ m V)) (t_X9_wholeModel_70_b x1 V) := by
  unfold f_X9_wholeModel_70_b t_X9_wholeModel_70_b
  refine te_if ?_ ?_
  · exact te_map (e_X9_wholeModel_89 h) (fun r => rfl)
  · refine te_gr h (f := 933) rfl ?_
    refine te_pa h rfl (fun V2 => ?_)
    refine te_let (fun y3 => ?_)
    exact te_some rfl
noncomputable def t_X9_wholeModel_70 (x1 : Int) (V : zW) : Option (Int × zW) :=
  zloop (fun s : Int × zW => t_X9_wholeModel_70_b s.1 s.2) (x1, V)
theorem e_X9_wholeModel_70 {σ : zM} {m : Nat} (h : tOK m σ) {x1 : Int} {V : zW} : tR (tfi σ m) (f_X9_wholeModel_70 (m : Int) x1 (tw σ m V)) (t_X9_wholeModel_70 x1 V) := by
  unfold f_X9_wholeModel_70 t_X9_wholeModel_70
  refine te_loop (φ := (fun s => (s.1, tw σ m s.2))) (s := (x1, V)) (fun s => ?_)
  exact e_X9_wholeModel_70_b h
noncomputable def t_X9_wholeModel_68 (V : zW) : Option (Int × zW) :=
  t_X9_wholeModel_70 0 V
theorem e_X9_wholeModel_68 {σ : zM} {m : Nat} (h : tOK m σ) {V : zW} : tR (tfi σ m) (f_X9_wholeModel_68 (m : Int) (tw σ m V)) (t_X9_wholeModel_68  V) := by
  unfold f_X9_wholeModel_68 t_X9_wholeModel_68
  exact (e_X9_wholeModel_70 h)
noncomputable def t_X9_wholeModel_42_b (x1 : Int) (V : zW) : Option ((Int × zW) ⊕ (Int × zW)) :=
  if 8 ≤ x1 then
    (t_X9_wholeModel_68 V).map (fun r => (.inr r))
  else
    (tpa V 909 x1 (-1)).bind fun V2 =>
    (tpa V2 910 x1 (-1)).bind fun V4 =>
    zlet (zadd x1 1) fun y5 =>
    some (.inl (y5, V4))
theorem e_X9_wholeModel_42_b {σ : zM} {m : Nat} (h : tOK m σ) {x1 : Int} {V : zW} : tR (Sum.map (fun s => (s.1, tw σ m s.2)) (tfi σ m)) (f_X9_wholeModel_42_b (m : Int) x1 (tw σ m V)) (t_X9_wholeModel_42_b x1 V) := by
  unfold f_X9_wholeModel_42_b t_X9_wholeModel_42_b
  refine te_if ?_ ?_
  · exact te_map (e_X9_wholeModel_68 h) (fun r => rfl)
  · refine te_gr h (f := 909) rfl ?_
    refine te_pa h rfl (fun V2 => ?_)
    refine te_gr h (f := 910) rfl ?_
    refine te_pa h rfl (fun V4 => ?_)
    refine te_let (fun y5 => ?_)
    exact te_some rfl
noncomputable def t_X9_wholeModel_42 (x1 : Int) (V : zW) : Option (Int × zW) :=
  zloop (fun s : Int × zW => t_X9_wholeModel_42_b s.1 s.2) (x1, V)
theorem e_X9_wholeModel_42 {σ : zM} {m : Nat} (h : tOK m σ) {x1 : Int} {V : zW} : tR (tfi σ m) (f_X9_wholeModel_42 (m : Int) x1 (tw σ m V)) (t_X9_wholeModel_42 x1 V) := by
  unfold f_X9_wholeModel_42 t_X9_wholeModel_42
  refine te_loop (φ := (fun s => (s.1, tw σ m s.2))) (s := (x1, V)) (fun s => ?_)
  exact e_X9_wholeModel_42_b h
noncomputable def t_X9_wholeModel (V : zW) : Option (Int × zW) :=
  twl (us V 903 0) fun V1 =>
  twl (us V1 904 (-1)) fun V2 =>
  twl (us V2 907 0) fun V3 =>
  twl (us V3 908 0) fun V4 =>
  twl (us V4 913 0) fun V5 =>
  twl (us V5 927 0) fun V6 =>
  twl (us V6 930 0) fun V7 =>
  twl (us V7 936 0) fun V8 =>
  t_X9_wholeModel_42 0 V8
theorem e_X9_wholeModel {σ : zM} {m : Nat} (h : tOK m σ) {V : zW} : tR (tfi σ m) (f_X9_wholeModel (m : Int) (tw σ m V)) (t_X9_wholeModel  V) := by
  unfold f_X9_wholeModel t_X9_wholeModel
  refine te_ps h rfl (fun V1 => ?_)
  refine te_ps h rfl (fun V2 => ?_)
  refine te_ps h rfl (fun V3 => ?_)
  refine te_ps h rfl (fun V4 => ?_)
  refine te_ps h rfl (fun V5 => ?_)
  refine te_ps h rfl (fun V6 => ?_)
  refine te_ps h rfl (fun V7 => ?_)
  refine te_ps h rfl (fun V8 => ?_)
  exact (e_X9_wholeModel_42 h)
noncomputable def t_X9_pointOf_19 (t0 : Int) (V : zW) : Option (Int × zW) :=
  some (t0, V)
theorem e_X9_pointOf_19 {σ : zM} {m : Nat} (h : tOK m σ) {t0 : Int} {V : zW} : tR (tfi σ m) (f_X9_pointOf_19 t0 (tw σ m V)) (t_X9_pointOf_19 t0 V) := by
  unfold f_X9_pointOf_19 t_X9_pointOf_19
  exact te_some rfl
noncomputable def t_X9_pointOf (x1 x2 : Int) (V : zW) : Option (Int × zW) :=
  if 0 ≤ x2 then
    (tga V 920 x2).bind fun v2 =>
    t_X9_pointOf_19 v2 V
  else
    (tga V 931 x1).bind fun v4 =>
    t_X9_pointOf_19 v4 V
theorem e_X9_pointOf {σ : zM} {m : Nat} (h : tOK m σ) {x1 x2 : Int} {V : zW} : tR (tfi σ m) (f_X9_pointOf (m : Int) x1 x2 (tw σ m V)) (t_X9_pointOf x1 x2 V) := by
  unfold f_X9_pointOf t_X9_pointOf
  refine te_if ?_ ?_
  · refine te_gr h (f := 920) rfl ?_
    refine te_ga h rfl (fun v2 => ?_)
    exact (e_X9_pointOf_19 h)
  · refine te_gr h (f := 931) rfl ?_
    refine te_ga h rfl (fun v4 => ?_)
    exact (e_X9_pointOf_19 h)
noncomputable def t_X9_link_164 (V : zW) : Option zW :=
  some V
theorem e_X9_link_164 {σ : zM} {m : Nat} (h : tOK m σ) {V : zW} : tR (tfv σ m) (f_X9_link_164  (tw σ m V)) (t_X9_link_164  V) := by
  unfold f_X9_link_164 t_X9_link_164
  exact te_some rfl
noncomputable def t_X9_link_158 (x1 : Int) (V : zW) : Option ((Int × zW) ⊕ zW) :=
  zlet (zadd x1 1) fun y1 =>
  some (.inl (y1, V))
theorem e_X9_link_158 {σ : zM} {m : Nat} (h : tOK m σ) {x1 : Int} {V : zW} : tR (Sum.map (fun s => (s.1, tw σ m s.2)) (tfv σ m)) (f_X9_link_158 (m : Int) x1 (tw σ m V)) (t_X9_link_158 x1 V) := by
  unfold f_X9_link_158 t_X9_link_158
  refine te_let (fun y1 => ?_)
  exact te_some rfl
noncomputable def t_X9_link_92_b (x1 x2 x3 : Int) (V : zW) : Option ((Int × zW) ⊕ ((Int × zW) ⊕ zW)) :=
  (tga V 918 x3).bind fun v2 =>
  if v2 = 0 then
    (t_X9_link_158 x1 V).map (fun r => (.inr r))
  else
    (tga V 916 x3).bind fun v4 =>
    if v4 < 0 then
      (t_X9_link_158 x1 V).map (fun r => (.inr r))
    else
      (tga V 916 x3).bind fun v6 =>
      (tga V 914 v6).bind fun v8 =>
      if v8 = 8 then
        some (.inl (v6, V))
      else
        (tga V 915 x2).bind fun v11 =>
        (tga V 920 v6).bind fun v13 =>
        (tga V 935 (zadd (zmul 31 v11) v13)).bind fun v14 =>
        (tpa V 935 (zadd (zmul 31 v11) v13) (jor v14 (jshl 1 x1))).bind fun V15 =>
        some (.inl (v6, V15))
theorem e_X9_link_92_b {σ : zM} {m : Nat} (h : tOK m σ) {x1 x2 x3 : Int} {V : zW} : tR (Sum.map (fun s => (s.1, tw σ m s.2)) (Sum.map (fun s => (s.1, tw σ m s.2)) (tfv σ m))) (f_X9_link_92_b (m : Int) x1 x2 x3 (tw σ m V)) (t_X9_link_92_b x1 x2 x3 V) := by
  unfold f_X9_link_92_b t_X9_link_92_b
  refine te_gr h (f := 918) rfl ?_
  refine te_ga h rfl (fun v2 => ?_)
  refine te_if ?_ ?_
  · exact te_map (e_X9_link_158 h) (fun r => rfl)
  · refine te_gr h (f := 916) rfl ?_
    refine te_ga h rfl (fun v4 => ?_)
    refine te_if ?_ ?_
    · exact te_map (e_X9_link_158 h) (fun r => rfl)
    · refine te_gr h (f := 916) rfl ?_
      refine te_ga h rfl (fun v6 => ?_)
      refine te_gr h (f := 914) rfl ?_
      refine te_ga h rfl (fun v8 => ?_)
      refine te_if ?_ ?_
      · exact te_some rfl
      · refine te_gr h (f := 935) rfl ?_
        refine te_gr h (f := 915) rfl ?_
        refine te_ga h rfl (fun v11 => ?_)
        refine te_gr h (f := 920) rfl ?_
        refine te_ga h rfl (fun v13 => ?_)
        refine te_ga h rfl (fun v14 => ?_)
        refine te_pa h rfl (fun V15 => ?_)
        exact te_some rfl
noncomputable def t_X9_link_92 (x1 x2 x3 : Int) (V : zW) : Option ((Int × zW) ⊕ zW) :=
  zloop (fun s : Int × zW => t_X9_link_92_b x1 x2 s.1 s.2) (x3, V)
theorem e_X9_link_92 {σ : zM} {m : Nat} (h : tOK m σ) {x1 x2 x3 : Int} {V : zW} : tR (Sum.map (fun s => (s.1, tw σ m s.2)) (tfv σ m)) (f_X9_link_92 (m : Int) x1 x2 x3 (tw σ m V)) (t_X9_link_92 x1 x2 x3 V) := by
  unfold f_X9_link_92 t_X9_link_92
  refine te_loop (φ := (fun s => (s.1, tw σ m s.2))) (s := (x3, V)) (fun s => ?_)
  exact e_X9_link_92_b h
noncomputable def t_X9_link_23_b (x1 : Int) (V : zW) : Option ((Int × zW) ⊕ zW) :=
  zlet (V.1 927) fun v1 =>
  if v1 ≤ x1 then
    (t_X9_link_164 V).map (fun r => (.inr r))
  else
    (tga V 928 x1).bind fun v3 =>
    (tga V 915 v3).bind fun v6 =>
    tci (t_X9_next v3 V) fun v7 V8 =>
    tci (t_X9_instead v7 V8) fun v9 V10 =>
    tci (t_X9_pointOf v6 v9 V10) fun v11 V12 =>
    (tpa V12 926 v3 v11).bind fun V13 =>
    (tga V13 915 v3).bind fun v16 =>
    (tga V13 920 v3).bind fun v18 =>
    (tga V13 935 (zadd (zmul 31 v16) v18)).bind fun v19 =>
    (tpa V13 935 (zadd (zmul 31 v16) v18) (jor v19 (jshl 1 x1))).bind fun V20 =>
    t_X9_link_92 x1 v3 v3 V20
theorem e_X9_link_23_b {σ : zM} {m : Nat} (h : tOK m σ) {x1 : Int} {V : zW} : tR (Sum.map (fun s => (s.1, tw σ m s.2)) (tfv σ m)) (f_X9_link_23_b (m : Int) x1 (tw σ m V)) (t_X9_link_23_b x1 V) := by
  unfold f_X9_link_23_b t_X9_link_23_b
  refine te_gs h rfl (fun v1 => ?_)
  refine te_if ?_ ?_
  · exact te_map (e_X9_link_164 h) (fun r => rfl)
  · refine te_gr h (f := 928) rfl ?_
    refine te_ga h rfl (fun v3 => ?_)
    refine te_gr h (f := 926) rfl ?_
    refine te_gr h (f := 915) rfl ?_
    refine te_ga h rfl (fun v6 => ?_)
    refine te_is h ?_
    refine te_ci (e_X9_next h) (fun v7 V8 => ?_)
    refine te_is h ?_
    refine te_ci (e_X9_instead h) (fun v9 V10 => ?_)
    refine te_is h ?_
    refine te_ci (e_X9_pointOf h) (fun v11 V12 => ?_)
    refine te_pa h rfl (fun V13 => ?_)
    refine te_gr h (f := 935) rfl ?_
    refine te_gr h (f := 915) rfl ?_
    refine te_ga h rfl (fun v16 => ?_)
    refine te_gr h (f := 920) rfl ?_
    refine te_ga h rfl (fun v18 => ?_)
    refine te_ga h rfl (fun v19 => ?_)
    refine te_pa h rfl (fun V20 => ?_)
    exact (e_X9_link_92 h)
noncomputable def t_X9_link_23 (x1 : Int) (V : zW) : Option zW :=
  zloop (fun s : Int × zW => t_X9_link_23_b s.1 s.2) (x1, V)
theorem e_X9_link_23 {σ : zM} {m : Nat} (h : tOK m σ) {x1 : Int} {V : zW} : tR (tfv σ m) (f_X9_link_23 (m : Int) x1 (tw σ m V)) (t_X9_link_23 x1 V) := by
  unfold f_X9_link_23 t_X9_link_23
  refine te_loop (φ := (fun s => (s.1, tw σ m s.2))) (s := (x1, V)) (fun s => ?_)
  exact e_X9_link_23_b h
noncomputable def t_X9_link_21 (V : zW) : Option zW :=
  t_X9_link_23 0 V
theorem e_X9_link_21 {σ : zM} {m : Nat} (h : tOK m σ) {V : zW} : tR (tfv σ m) (f_X9_link_21 (m : Int) (tw σ m V)) (t_X9_link_21  V) := by
  unfold f_X9_link_21 t_X9_link_21
  exact (e_X9_link_23 h)
noncomputable def t_X9_link_2_b (x1 : Int) (V : zW) : Option ((Int × zW) ⊕ zW) :=
  if 124 ≤ x1 then
    (t_X9_link_21 V).map (fun r => (.inr r))
  else
    (tpa V 935 x1 0).bind fun V2 =>
    zlet (zadd x1 1) fun y3 =>
    some (.inl (y3, V2))
theorem e_X9_link_2_b {σ : zM} {m : Nat} (h : tOK m σ) {x1 : Int} {V : zW} : tR (Sum.map (fun s => (s.1, tw σ m s.2)) (tfv σ m)) (f_X9_link_2_b (m : Int) x1 (tw σ m V)) (t_X9_link_2_b x1 V) := by
  unfold f_X9_link_2_b t_X9_link_2_b
  refine te_if ?_ ?_
  · exact te_map (e_X9_link_21 h) (fun r => rfl)
  · refine te_gr h (f := 935) rfl ?_
    refine te_pa h rfl (fun V2 => ?_)
    refine te_let (fun y3 => ?_)
    exact te_some rfl
noncomputable def t_X9_link_2 (x1 : Int) (V : zW) : Option zW :=
  zloop (fun s : Int × zW => t_X9_link_2_b s.1 s.2) (x1, V)
theorem e_X9_link_2 {σ : zM} {m : Nat} (h : tOK m σ) {x1 : Int} {V : zW} : tR (tfv σ m) (f_X9_link_2 (m : Int) x1 (tw σ m V)) (t_X9_link_2 x1 V) := by
  unfold f_X9_link_2 t_X9_link_2
  refine te_loop (φ := (fun s => (s.1, tw σ m s.2))) (s := (x1, V)) (fun s => ?_)
  exact e_X9_link_2_b h
noncomputable def t_X9_link (V : zW) : Option zW :=
  t_X9_link_2 0 V
theorem e_X9_link {σ : zM} {m : Nat} (h : tOK m σ) {V : zW} : tR (tfv σ m) (f_X9_link (m : Int) (tw σ m V)) (t_X9_link  V) := by
  unfold f_X9_link t_X9_link
  exact (e_X9_link_2 h)
noncomputable def t_X9_packed_147 (x1 : Int) (V : zW) : Option (Int × zW) :=
  zlet (V.1 959) fun v1 =>
  some ((jor x1 (jshl (zadd v1 1) 60)), V)
theorem e_X9_packed_147 {σ : zM} {m : Nat} (h : tOK m σ) {x1 : Int} {V : zW} : tR (tfj σ m) (f_X9_packed_147 (m : Int) x1 (tw σ m V)) (t_X9_packed_147 x1 V) := by
  unfold f_X9_packed_147 t_X9_packed_147
  refine te_gs h rfl (fun v1 => ?_)
  exact te_some rfl
noncomputable def t_X9_packed_116_b (x1 x3 : Int) (V : zW) : Option ((Int × Int) ⊕ (Int × zW)) :=
  zlet (V.1 930) fun v1 =>
  if v1 ≤ x3 then
    (t_X9_packed_147 x1 V).map (fun r => (.inr r))
  else
    (tga V 958 x3).bind fun v3 =>
    zlet ((jor x1 (jshl v3 (zadd 40 (zmul 5 x3))))) fun y4 =>
    zlet (zadd x3 1) fun y5 =>
    some (.inl (y4, y5))
theorem e_X9_packed_116_b {σ : zM} {m : Nat} (h : tOK m σ) {x1 x3 : Int} {V : zW} : tR (Sum.map id (tfj σ m)) (f_X9_packed_116_b (m : Int) x1 x3 (tw σ m V)) (t_X9_packed_116_b x1 x3 V) := by
  unfold f_X9_packed_116_b t_X9_packed_116_b
  refine te_gs h rfl (fun v1 => ?_)
  refine te_if ?_ ?_
  · exact te_map (e_X9_packed_147 h) (fun r => rfl)
  · refine te_gr h (f := 958) rfl ?_
    refine te_ga h rfl (fun v3 => ?_)
    refine te_let (fun y4 => ?_)
    refine te_let (fun y5 => ?_)
    exact te_some rfl
noncomputable def t_X9_packed_116 (x1 x3 : Int) (V : zW) : Option (Int × zW) :=
  zloop (fun s : Int × Int => t_X9_packed_116_b s.1 s.2 V) (x1, x3)
theorem e_X9_packed_116 {σ : zM} {m : Nat} (h : tOK m σ) {x1 x3 : Int} {V : zW} : tR (tfj σ m) (f_X9_packed_116 (m : Int) x1 x3 (tw σ m V)) (t_X9_packed_116 x1 x3 V) := by
  unfold f_X9_packed_116 t_X9_packed_116
  refine te_loop (φ := id) (s := (x1, x3)) (fun s => ?_)
  exact e_X9_packed_116_b h
noncomputable def t_X9_packed_114 (x1 : Int) (V : zW) : Option (Int × zW) :=
  t_X9_packed_116 x1 0 V
theorem e_X9_packed_114 {σ : zM} {m : Nat} (h : tOK m σ) {x1 : Int} {V : zW} : tR (tfj σ m) (f_X9_packed_114 (m : Int) x1 (tw σ m V)) (t_X9_packed_114 x1 V) := by
  unfold f_X9_packed_114 t_X9_packed_114
  exact (e_X9_packed_116 h)
noncomputable def t_X9_packed_108 (x1 x3 : Int) (V : zW) : Option ((Int × Int) ⊕ (Int × zW)) :=
  zlet (zadd x3 1) fun y1 =>
  some (.inl (x1, y1))
theorem e_X9_packed_108 {σ : zM} {m : Nat} (h : tOK m σ) {x1 x3 : Int} {V : zW} : tR (Sum.map id (tfj σ m)) (f_X9_packed_108 (m : Int) x1 x3 (tw σ m V)) (t_X9_packed_108 x1 x3 V) := by
  unfold f_X9_packed_108 t_X9_packed_108
  refine te_let (fun y1 => ?_)
  exact te_some rfl
noncomputable def t_X9_packed_63_b (x1 x3 x4 : Int) (V : zW) : Option ((Int × Int) ⊕ ((Int × Int) ⊕ (Int × zW))) :=
  (tga V 956 x3).bind fun v2 =>
  if v2 ≤ x4 then
    (t_X9_packed_108 x1 x3 V).map (fun r => (.inr r))
  else
    (tga V 957 (zadd (zmul 3 x3) x4)).bind fun v4 =>
    zlet ((jor x1 (jshl v4 (zadd (zadd 20 (zmul 11 x3)) (zmul 3 x4))))) fun y5 =>
    zlet (zadd x4 1) fun y6 =>
    some (.inl (y5, y6))
theorem e_X9_packed_63_b {σ : zM} {m : Nat} (h : tOK m σ) {x1 x3 x4 : Int} {V : zW} : tR (Sum.map id (Sum.map id (tfj σ m))) (f_X9_packed_63_b (m : Int) x1 x3 x4 (tw σ m V)) (t_X9_packed_63_b x1 x3 x4 V) := by
  unfold f_X9_packed_63_b t_X9_packed_63_b
  refine te_gr h (f := 956) rfl ?_
  refine te_ga h rfl (fun v2 => ?_)
  refine te_if ?_ ?_
  · exact te_map (e_X9_packed_108 h) (fun r => rfl)
  · refine te_gr h (f := 957) rfl ?_
    refine te_ga h rfl (fun v4 => ?_)
    refine te_let (fun y5 => ?_)
    refine te_let (fun y6 => ?_)
    exact te_some rfl
noncomputable def t_X9_packed_63 (x1 x3 x4 : Int) (V : zW) : Option ((Int × Int) ⊕ (Int × zW)) :=
  zloop (fun s : Int × Int => t_X9_packed_63_b s.1 x3 s.2 V) (x1, x4)
theorem e_X9_packed_63 {σ : zM} {m : Nat} (h : tOK m σ) {x1 x3 x4 : Int} {V : zW} : tR (Sum.map id (tfj σ m)) (f_X9_packed_63 (m : Int) x1 x3 x4 (tw σ m V)) (t_X9_packed_63 x1 x3 x4 V) := by
  unfold f_X9_packed_63 t_X9_packed_63
  refine te_loop (φ := id) (s := (x1, x4)) (fun s => ?_)
  exact e_X9_packed_63_b h
noncomputable def t_X9_packed_34_b (x1 x3 : Int) (V : zW) : Option ((Int × Int) ⊕ (Int × zW)) :=
  zlet (V.1 908) fun v1 =>
  if v1 ≤ x3 then
    (t_X9_packed_114 x1 V).map (fun r => (.inr r))
  else
    (tga V 956 x3).bind fun v3 =>
    zlet ((jor x1 (jshl v3 (zadd 18 (zmul 11 x3))))) fun y4 =>
    t_X9_packed_63 y4 x3 0 V
theorem e_X9_packed_34_b {σ : zM} {m : Nat} (h : tOK m σ) {x1 x3 : Int} {V : zW} : tR (Sum.map id (tfj σ m)) (f_X9_packed_34_b (m : Int) x1 x3 (tw σ m V)) (t_X9_packed_34_b x1 x3 V) := by
  unfold f_X9_packed_34_b t_X9_packed_34_b
  refine te_gs h rfl (fun v1 => ?_)
  refine te_if ?_ ?_
  · exact te_map (e_X9_packed_114 h) (fun r => rfl)
  · refine te_gr h (f := 956) rfl ?_
    refine te_ga h rfl (fun v3 => ?_)
    refine te_let (fun y4 => ?_)
    exact (e_X9_packed_63 h)
noncomputable def t_X9_packed_34 (x1 x3 : Int) (V : zW) : Option (Int × zW) :=
  zloop (fun s : Int × Int => t_X9_packed_34_b s.1 s.2 V) (x1, x3)
theorem e_X9_packed_34 {σ : zM} {m : Nat} (h : tOK m σ) {x1 x3 : Int} {V : zW} : tR (tfj σ m) (f_X9_packed_34 (m : Int) x1 x3 (tw σ m V)) (t_X9_packed_34 x1 x3 V) := by
  unfold f_X9_packed_34 t_X9_packed_34
  refine te_loop (φ := id) (s := (x1, x3)) (fun s => ?_)
  exact e_X9_packed_34_b h
noncomputable def t_X9_packed_32 (x1 : Int) (V : zW) : Option (Int × zW) :=
  t_X9_packed_34 x1 0 V
theorem e_X9_packed_32 {σ : zM} {m : Nat} (h : tOK m σ) {x1 : Int} {V : zW} : tR (tfj σ m) (f_X9_packed_32 (m : Int) x1 (tw σ m V)) (t_X9_packed_32 x1 V) := by
  unfold f_X9_packed_32 t_X9_packed_32
  exact (e_X9_packed_34 h)
noncomputable def t_X9_packed_4_b (x1 x3 : Int) (V : zW) : Option ((Int × Int) ⊕ (Int × zW)) :=
  zlet (V.1 907) fun v1 =>
  if v1 ≤ x3 then
    (t_X9_packed_32 x1 V).map (fun r => (.inr r))
  else
    (tga V 955 x3).bind fun v3 =>
    zlet ((jor x1 (jshl v3 (zmul 3 x3)))) fun y4 =>
    zlet (zadd x3 1) fun y5 =>
    some (.inl (y4, y5))
theorem e_X9_packed_4_b {σ : zM} {m : Nat} (h : tOK m σ) {x1 x3 : Int} {V : zW} : tR (Sum.map id (tfj σ m)) (f_X9_packed_4_b (m : Int) x1 x3 (tw σ m V)) (t_X9_packed_4_b x1 x3 V) := by
  unfold f_X9_packed_4_b t_X9_packed_4_b
  refine te_gs h rfl (fun v1 => ?_)
  refine te_if ?_ ?_
  · exact te_map (e_X9_packed_32 h) (fun r => rfl)
  · refine te_gr h (f := 955) rfl ?_
    refine te_ga h rfl (fun v3 => ?_)
    refine te_let (fun y4 => ?_)
    refine te_let (fun y5 => ?_)
    exact te_some rfl
noncomputable def t_X9_packed_4 (x1 x3 : Int) (V : zW) : Option (Int × zW) :=
  zloop (fun s : Int × Int => t_X9_packed_4_b s.1 s.2 V) (x1, x3)
theorem e_X9_packed_4 {σ : zM} {m : Nat} (h : tOK m σ) {x1 x3 : Int} {V : zW} : tR (tfj σ m) (f_X9_packed_4 (m : Int) x1 x3 (tw σ m V)) (t_X9_packed_4 x1 x3 V) := by
  unfold f_X9_packed_4 t_X9_packed_4
  refine te_loop (φ := id) (s := (x1, x3)) (fun s => ?_)
  exact e_X9_packed_4_b h
noncomputable def t_X9_packed (V : zW) : Option (Int × zW) :=
  t_X9_packed_4 0 0 V
theorem e_X9_packed {σ : zM} {m : Nat} (h : tOK m σ) {V : zW} : tR (tfj σ m) (f_X9_packed (m : Int) (tw σ m V)) (t_X9_packed  V) := by
  unfold f_X9_packed t_X9_packed
  exact (e_X9_packed_4 h)
noncomputable def t_X9_unpack_148 (x1 : Int) (V : zW) : Option zW :=
  twl (us V 959 (zsub (zl2i (jand (jshr x1 60) 7)) 1)) fun V1 =>
  some V1
theorem e_X9_unpack_148 {σ : zM} {m : Nat} (h : tOK m σ) {x1 : Int} {V : zW} : tR (tfv σ m) (f_X9_unpack_148 (m : Int) x1 (tw σ m V)) (t_X9_unpack_148 x1 V) := by
  unfold f_X9_unpack_148 t_X9_unpack_148
  refine te_ps h rfl (fun V1 => ?_)
  exact te_some rfl
noncomputable def t_X9_unpack_115_b (x1 x3 : Int) (V : zW) : Option ((Int × zW) ⊕ zW) :=
  zlet (V.1 930) fun v1 =>
  if v1 ≤ x3 then
    (t_X9_unpack_148 x1 V).map (fun r => (.inr r))
  else
    (tpa V 958 x3 (zl2i (jand (jshr x1 (zadd 40 (zmul 5 x3))) 31))).bind fun V3 =>
    zlet (zadd x3 1) fun y4 =>
    some (.inl (y4, V3))
theorem e_X9_unpack_115_b {σ : zM} {m : Nat} (h : tOK m σ) {x1 x3 : Int} {V : zW} : tR (Sum.map (fun s => (s.1, tw σ m s.2)) (tfv σ m)) (f_X9_unpack_115_b (m : Int) x1 x3 (tw σ m V)) (t_X9_unpack_115_b x1 x3 V) := by
  unfold f_X9_unpack_115_b t_X9_unpack_115_b
  refine te_gs h rfl (fun v1 => ?_)
  refine te_if ?_ ?_
  · exact te_map (e_X9_unpack_148 h) (fun r => rfl)
  · refine te_gr h (f := 958) rfl ?_
    refine te_pa h rfl (fun V3 => ?_)
    refine te_let (fun y4 => ?_)
    exact te_some rfl
noncomputable def t_X9_unpack_115 (x1 x3 : Int) (V : zW) : Option zW :=
  zloop (fun s : Int × zW => t_X9_unpack_115_b x1 s.1 s.2) (x3, V)
theorem e_X9_unpack_115 {σ : zM} {m : Nat} (h : tOK m σ) {x1 x3 : Int} {V : zW} : tR (tfv σ m) (f_X9_unpack_115 (m : Int) x1 x3 (tw σ m V)) (t_X9_unpack_115 x1 x3 V) := by
  unfold f_X9_unpack_115 t_X9_unpack_115
  refine te_loop (φ := (fun s => (s.1, tw σ m s.2))) (s := (x3, V)) (fun s => ?_)
  exact e_X9_unpack_115_b h
noncomputable def t_X9_unpack_113 (x1 : Int) (V : zW) : Option zW :=
  t_X9_unpack_115 x1 0 V
theorem e_X9_unpack_113 {σ : zM} {m : Nat} (h : tOK m σ) {x1 : Int} {V : zW} : tR (tfv σ m) (f_X9_unpack_113 (m : Int) x1 (tw σ m V)) (t_X9_unpack_113 x1 V) := by
  unfold f_X9_unpack_113 t_X9_unpack_113
  exact (e_X9_unpack_115 h)
noncomputable def t_X9_unpack_107 (x1 x3 : Int) (V : zW) : Option ((Int × zW) ⊕ zW) :=
  zlet (zadd x3 1) fun y1 =>
  some (.inl (y1, V))
theorem e_X9_unpack_107 {σ : zM} {m : Nat} (h : tOK m σ) {x1 x3 : Int} {V : zW} : tR (Sum.map (fun s => (s.1, tw σ m s.2)) (tfv σ m)) (f_X9_unpack_107 (m : Int) x1 x3 (tw σ m V)) (t_X9_unpack_107 x1 x3 V) := by
  unfold f_X9_unpack_107 t_X9_unpack_107
  refine te_let (fun y1 => ?_)
  exact te_some rfl
noncomputable def t_X9_unpack_65_b (x1 x3 x4 : Int) (V : zW) : Option ((Int × zW) ⊕ ((Int × zW) ⊕ zW)) :=
  if 3 ≤ x4 then
    (t_X9_unpack_107 x1 x3 V).map (fun r => (.inr r))
  else
    (tpa V 957 (zadd (zmul 3 x3) x4) (zl2i (jand (jshr x1 (zadd (zadd 20 (zmul 11 x3)) (zmul 3 x4))) 7))).bind fun V2 =>
    zlet (zadd x4 1) fun y3 =>
    some (.inl (y3, V2))
theorem e_X9_unpack_65_b {σ : zM} {m : Nat} (h : tOK m σ) {x1 x3 x4 : Int} {V : zW} : tR (Sum.map (fun s => (s.1, tw σ m s.2)) (Sum.map (fun s => (s.1, tw σ m s.2)) (tfv σ m))) (f_X9_unpack_65_b (m : Int) x1 x3 x4 (tw σ m V)) (t_X9_unpack_65_b x1 x3 x4 V) := by
  unfold f_X9_unpack_65_b t_X9_unpack_65_b
  refine te_if ?_ ?_
  · exact te_map (e_X9_unpack_107 h) (fun r => rfl)
  · refine te_gr h (f := 957) rfl ?_
    refine te_pa h rfl (fun V2 => ?_)
    refine te_let (fun y3 => ?_)
    exact te_some rfl
noncomputable def t_X9_unpack_65 (x1 x3 x4 : Int) (V : zW) : Option ((Int × zW) ⊕ zW) :=
  zloop (fun s : Int × zW => t_X9_unpack_65_b x1 x3 s.1 s.2) (x4, V)
theorem e_X9_unpack_65 {σ : zM} {m : Nat} (h : tOK m σ) {x1 x3 x4 : Int} {V : zW} : tR (Sum.map (fun s => (s.1, tw σ m s.2)) (tfv σ m)) (f_X9_unpack_65 (m : Int) x1 x3 x4 (tw σ m V)) (t_X9_unpack_65 x1 x3 x4 V) := by
  unfold f_X9_unpack_65 t_X9_unpack_65
  refine te_loop (φ := (fun s => (s.1, tw σ m s.2))) (s := (x4, V)) (fun s => ?_)
  exact e_X9_unpack_65_b h
noncomputable def t_X9_unpack_34_b (x1 x3 : Int) (V : zW) : Option ((Int × zW) ⊕ zW) :=
  zlet (V.1 908) fun v1 =>
  if v1 ≤ x3 then
    (t_X9_unpack_113 x1 V).map (fun r => (.inr r))
  else
    (tpa V 956 x3 (zl2i (jand (jshr x1 (zadd 18 (zmul 11 x3))) 3))).bind fun V3 =>
    t_X9_unpack_65 x1 x3 0 V3
theorem e_X9_unpack_34_b {σ : zM} {m : Nat} (h : tOK m σ) {x1 x3 : Int} {V : zW} : tR (Sum.map (fun s => (s.1, tw σ m s.2)) (tfv σ m)) (f_X9_unpack_34_b (m : Int) x1 x3 (tw σ m V)) (t_X9_unpack_34_b x1 x3 V) := by
  unfold f_X9_unpack_34_b t_X9_unpack_34_b
  refine te_gs h rfl (fun v1 => ?_)
  refine te_if ?_ ?_
  · exact te_map (e_X9_unpack_113 h) (fun r => rfl)
  · refine te_gr h (f := 956) rfl ?_
    refine te_pa h rfl (fun V3 => ?_)
    exact (e_X9_unpack_65 h)
noncomputable def t_X9_unpack_34 (x1 x3 : Int) (V : zW) : Option zW :=
  zloop (fun s : Int × zW => t_X9_unpack_34_b x1 s.1 s.2) (x3, V)
theorem e_X9_unpack_34 {σ : zM} {m : Nat} (h : tOK m σ) {x1 x3 : Int} {V : zW} : tR (tfv σ m) (f_X9_unpack_34 (m : Int) x1 x3 (tw σ m V)) (t_X9_unpack_34 x1 x3 V) := by
  unfold f_X9_unpack_34 t_X9_unpack_34
  refine te_loop (φ := (fun s => (s.1, tw σ m s.2))) (s := (x3, V)) (fun s => ?_)
  exact e_X9_unpack_34_b h
noncomputable def t_X9_unpack_32 (x1 : Int) (V : zW) : Option zW :=
  t_X9_unpack_34 x1 0 V
theorem e_X9_unpack_32 {σ : zM} {m : Nat} (h : tOK m σ) {x1 : Int} {V : zW} : tR (tfv σ m) (f_X9_unpack_32 (m : Int) x1 (tw σ m V)) (t_X9_unpack_32 x1 V) := by
  unfold f_X9_unpack_32 t_X9_unpack_32
  exact (e_X9_unpack_34 h)
noncomputable def t_X9_unpack_2_b (x1 x3 : Int) (V : zW) : Option ((Int × zW) ⊕ zW) :=
  zlet (V.1 907) fun v1 =>
  if v1 ≤ x3 then
    (t_X9_unpack_32 x1 V).map (fun r => (.inr r))
  else
    (tpa V 955 x3 (zl2i (jand (jshr x1 (zmul 3 x3)) 7))).bind fun V3 =>
    zlet (zadd x3 1) fun y4 =>
    some (.inl (y4, V3))
theorem e_X9_unpack_2_b {σ : zM} {m : Nat} (h : tOK m σ) {x1 x3 : Int} {V : zW} : tR (Sum.map (fun s => (s.1, tw σ m s.2)) (tfv σ m)) (f_X9_unpack_2_b (m : Int) x1 x3 (tw σ m V)) (t_X9_unpack_2_b x1 x3 V) := by
  unfold f_X9_unpack_2_b t_X9_unpack_2_b
  refine te_gs h rfl (fun v1 => ?_)
  refine te_if ?_ ?_
  · exact te_map (e_X9_unpack_32 h) (fun r => rfl)
  · refine te_gr h (f := 955) rfl ?_
    refine te_pa h rfl (fun V3 => ?_)
    refine te_let (fun y4 => ?_)
    exact te_some rfl
noncomputable def t_X9_unpack_2 (x1 x3 : Int) (V : zW) : Option zW :=
  zloop (fun s : Int × zW => t_X9_unpack_2_b x1 s.1 s.2) (x3, V)
theorem e_X9_unpack_2 {σ : zM} {m : Nat} (h : tOK m σ) {x1 x3 : Int} {V : zW} : tR (tfv σ m) (f_X9_unpack_2 (m : Int) x1 x3 (tw σ m V)) (t_X9_unpack_2 x1 x3 V) := by
  unfold f_X9_unpack_2 t_X9_unpack_2
  refine te_loop (φ := (fun s => (s.1, tw σ m s.2))) (s := (x3, V)) (fun s => ?_)
  exact e_X9_unpack_2_b h
noncomputable def t_X9_unpack (x1 : Int) (V : zW) : Option zW :=
  t_X9_unpack_2 x1 0 V
theorem e_X9_unpack {σ : zM} {m : Nat} (h : tOK m σ) {x1 : Int} {V : zW} : tR (tfv σ m) (f_X9_unpack (m : Int) x1 (tw σ m V)) (t_X9_unpack x1 V) := by
  unfold f_X9_unpack t_X9_unpack
  exact (e_X9_unpack_2 h)
noncomputable def t_X9_maskOf_35 (t0 : Int) (V : zW) : Option (Int × zW) :=
  some (t0, V)
theorem e_X9_maskOf_35 {σ : zM} {m : Nat} (h : tOK m σ) {t0 : Int} {V : zW} : tR (tfj σ m) (f_X9_maskOf_35 t0 (tw σ m V)) (t_X9_maskOf_35 t0 V) := by
  unfold f_X9_maskOf_35 t_X9_maskOf_35
  exact te_some rfl
noncomputable def t_X9_maskOf (x1 : Int) (V : zW) : Option (Int × zW) :=
  (tga V 958 x1).bind fun v2 =>
  (tga V 931 x1).bind fun v4 =>
  if v2 ≠ v4 then
    (tga V 958 x1).bind fun v7 =>
    (tga V 935 (zadd (zmul 31 x1) v7)).bind fun v8 =>
    t_X9_maskOf_35 v8 V
  else
    t_X9_maskOf_35 0 V
theorem e_X9_maskOf {σ : zM} {m : Nat} (h : tOK m σ) {x1 : Int} {V : zW} : tR (tfj σ m) (f_X9_maskOf (m : Int) x1 (tw σ m V)) (t_X9_maskOf x1 V) := by
  unfold f_X9_maskOf t_X9_maskOf
  refine te_gr h (f := 958) rfl ?_
  refine te_ga h rfl (fun v2 => ?_)
  refine te_gr h (f := 931) rfl ?_
  refine te_ga h rfl (fun v4 => ?_)
  refine te_if ?_ ?_
  · refine te_gr h (f := 935) rfl ?_
    refine te_gr h (f := 958) rfl ?_
    refine te_ga h rfl (fun v7 => ?_)
    refine te_ga h rfl (fun v8 => ?_)
    exact (e_X9_maskOf_35 h)
  · exact (e_X9_maskOf_35 h)
noncomputable def t_X9_worth_229 (V : zW) : Option (Int × zW) :=
  (tga V 960 0).bind fun v2 =>
  some (v2, V)
theorem e_X9_worth_229 {σ : zM} {m : Nat} (h : tOK m σ) {V : zW} : tR (tfi σ m) (f_X9_worth_229 (m : Int) (tw σ m V)) (t_X9_worth_229  V) := by
  unfold f_X9_worth_229 t_X9_worth_229
  refine te_gr h (f := 960) rfl ?_
  refine te_ga h rfl (fun v2 => ?_)
  exact te_some rfl
noncomputable def t_X9_worth_223 (x2 x3 x4 : Int) (V : zW) : Option ((Int × Int × zW) ⊕ (Int × zW)) :=
  zlet (zadd x4 1) fun y1 =>
  some (.inl (x3, y1, V))
theorem e_X9_worth_223 {σ : zM} {m : Nat} (h : tOK m σ) {x2 x3 x4 : Int} {V : zW} : tR (Sum.map (fun s => (s.1, s.2.1, tw σ m s.2.2)) (tfi σ m)) (f_X9_worth_223 (m : Int) x2 x3 x4 (tw σ m V)) (t_X9_worth_223 x2 x3 x4 V) := by
  unfold f_X9_worth_223 t_X9_worth_223
  refine te_let (fun y1 => ?_)
  exact te_some rfl
noncomputable def t_X9_worth_222 (x2 x3 x4 t0 t1 : Int) (V : zW) : Option ((Int × Int × zW) ⊕ (Int × zW)) :=
  (tpa V 960 t1 t0).bind fun V1 =>
  t_X9_worth_223 x2 x3 x4 V1
theorem e_X9_worth_222 {σ : zM} {m : Nat} (h : tOK m σ) {x2 x3 x4 t0 t1 : Int} {V : zW} : tR (Sum.map (fun s => (s.1, s.2.1, tw σ m s.2.2)) (tfi σ m)) (f_X9_worth_222 (m : Int) x2 x3 x4 t0 t1 (tad m 960) (tw σ m V)) (t_X9_worth_222 x2 x3 x4 t0 t1 V) := by
  unfold f_X9_worth_222 t_X9_worth_222
  refine te_pa h rfl (fun V1 => ?_)
  exact (e_X9_worth_223 h)
noncomputable def t_X9_worth_99 (x2 x3 x4 t0 t1 : Int) (V : zW) : Option ((Int × Int × zW) ⊕ (Int × zW)) :=
  (tpa V 960 t1 t0).bind fun V1 =>
  zlet (zadd x3 1) fun y2 =>
  t_X9_worth_223 x2 y2 x4 V1
theorem e_X9_worth_99 {σ : zM} {m : Nat} (h : tOK m σ) {x2 x3 x4 t0 t1 : Int} {V : zW} : tR (Sum.map (fun s => (s.1, s.2.1, tw σ m s.2.2)) (tfi σ m)) (f_X9_worth_99 (m : Int) x2 x3 x4 t0 t1 (tad m 960) (tw σ m V)) (t_X9_worth_99 x2 x3 x4 t0 t1 V) := by
  unfold f_X9_worth_99 t_X9_worth_99
  refine te_pa h rfl (fun V1 => ?_)
  refine te_let (fun y2 => ?_)
  exact (e_X9_worth_223 h)
noncomputable def t_X9_worth_5_b (x2 x3 x4 : Int) (V : zW) : Option ((Int × Int × zW) ⊕ (Int × zW)) :=
  if x2 ≤ x4 then
    (t_X9_worth_229 V).map (fun r => (.inr r))
  else
    (tga V 937 x4).bind fun v2 =>
    if 8 ≤ v2 then
      if 16 ≤ v2 then
        zlet (zadd x3 (-1)) fun y3 =>
        (tga V 960 (zsub y3 1)).bind fun v5 =>
        (tga V 960 y3).bind fun v7 =>
        if v2 ≠ 16 then
          if v2 ≠ 17 then
            if v2 ≠ 18 then
              if v2 ≠ 19 then
                if v7 ≤ v5 then
                  t_X9_worth_222 x2 y3 x4 0 (zsub y3 1) V
                else
                  t_X9_worth_222 x2 y3 x4 1 (zsub y3 1) V
              else
                if v5 ≠ v7 then
                  t_X9_worth_222 x2 y3 x4 0 (zsub y3 1) V
                else
                  t_X9_worth_222 x2 y3 x4 1 (zsub y3 1) V
            else
              t_X9_worth_222 x2 y3 x4 (zand (zmul v5 v7) 7) (zsub y3 1) V
          else
            t_X9_worth_222 x2 y3 x4 (zand (zsub v5 v7) 7) (zsub y3 1) V
        else
          t_X9_worth_222 x2 y3 x4 (zand (zadd v5 v7) 7) (zsub y3 1) V
      else
        (tga V 909 (zsub v2 8)).bind fun v11 =>
        if v11 < 0 then
          (tga V 910 (zsub v2 8)).bind fun v14 =>
          (tga V 956 v14).bind fun v15 =>
          t_X9_worth_99 x2 x3 x4 v15 x3 V
        else
          (tga V 909 (zsub v2 8)).bind fun v18 =>
          (tga V 955 v18).bind fun v19 =>
          t_X9_worth_99 x2 x3 x4 v19 x3 V
    else
      (tpa V 960 x3 v2).bind fun V21 =>
      zlet (zadd x3 1) fun y22 =>
      t_X9_worth_223 x2 y22 x4 V21
theorem e_X9_worth_5_b {σ : zM} {m : Nat} (h : tOK m σ) {x2 x3 x4 : Int} {V : zW} : tR (Sum.map (fun s => (s.1, s.2.1, tw σ m s.2.2)) (tfi σ m)) (f_X9_worth_5_b (m : Int) x2 x3 x4 (tw σ m V)) (t_X9_worth_5_b x2 x3 x4 V) := by
  unfold f_X9_worth_5_b t_X9_worth_5_b
  refine te_if ?_ ?_
  · exact te_map (e_X9_worth_229 h) (fun r => rfl)
  · refine te_gr h (f := 937) rfl ?_
    refine te_ga h rfl (fun v2 => ?_)
    refine te_if ?_ ?_
    · refine te_if ?_ ?_
      · refine te_let (fun y3 => ?_)
        refine te_gr h (f := 960) rfl ?_
        refine te_ga h rfl (fun v5 => ?_)
        refine te_gr h (f := 960) rfl ?_
        refine te_ga h rfl (fun v7 => ?_)
        refine te_gr h (f := 960) rfl ?_
        refine te_if ?_ ?_
        · refine te_if ?_ ?_
          · refine te_if ?_ ?_
            · refine te_if ?_ ?_
              · refine te_if ?_ ?_
                · exact (e_X9_worth_222 h)
                · exact (e_X9_worth_222 h)
              · refine te_if ?_ ?_
                · exact (e_X9_worth_222 h)
                · exact (e_X9_worth_222 h)
            · exact (e_X9_worth_222 h)
          · exact (e_X9_worth_222 h)
        · exact (e_X9_worth_222 h)
      · refine te_gr h (f := 960) rfl ?_
        refine te_gr h (f := 909) rfl ?_
        refine te_ga h rfl (fun v11 => ?_)
        refine te_if ?_ ?_
        · refine te_gr h (f := 956) rfl ?_
          refine te_gr h (f := 910) rfl ?_
          refine te_ga h rfl (fun v14 => ?_)
          refine te_ga h rfl (fun v15 => ?_)
          exact (e_X9_worth_99 h)
        · refine te_gr h (f := 955) rfl ?_
          refine te_gr h (f := 909) rfl ?_
          refine te_ga h rfl (fun v18 => ?_)
          refine te_ga h rfl (fun v19 => ?_)
          exact (e_X9_worth_99 h)
    · refine te_gr h (f := 960) rfl ?_
      refine te_pa h rfl (fun V21 => ?_)
      refine te_let (fun y22 => ?_)
      exact (e_X9_worth_223 h)
noncomputable def t_X9_worth_5 (x2 x3 x4 : Int) (V : zW) : Option (Int × zW) :=
  zloop (fun s : Int × Int × zW => t_X9_worth_5_b x2 s.1 s.2.1 s.2.2) (x3, x4, V)
theorem e_X9_worth_5 {σ : zM} {m : Nat} (h : tOK m σ) {x2 x3 x4 : Int} {V : zW} : tR (tfi σ m) (f_X9_worth_5 (m : Int) x2 x3 x4 (tw σ m V)) (t_X9_worth_5 x2 x3 x4 V) := by
  unfold f_X9_worth_5 t_X9_worth_5
  refine te_loop (φ := (fun s => (s.1, s.2.1, tw σ m s.2.2))) (s := (x3, x4, V)) (fun s => ?_)
  exact e_X9_worth_5_b h
noncomputable def t_X9_worth (x1 x2 : Int) (V : zW) : Option (Int × zW) :=
  t_X9_worth_5 x2 0 x1 V
theorem e_X9_worth {σ : zM} {m : Nat} (h : tOK m σ) {x1 x2 : Int} {V : zW} : tR (tfi σ m) (f_X9_worth (m : Int) x1 x2 (tw σ m V)) (t_X9_worth x1 x2 V) := by
  unfold f_X9_worth t_X9_worth
  exact (e_X9_worth_5 h)
noncomputable def t_X9_meets_71 (t0 : Int) (V : zW) : Option (Int × zW) :=
  zgd (z01 t0) <|
  some (t0, V)
theorem e_X9_meets_71 {σ : zM} {m : Nat} (h : tOK m σ) {t0 : Int} {V : zW} : tR (tfi σ m) (f_X9_meets_71 t0 (tw σ m V)) (t_X9_meets_71 t0 V) := by
  unfold f_X9_meets_71 t_X9_meets_71
  refine te_gd ?_
  exact te_some rfl
noncomputable def t_X9_meets_70 (V : zW) : Option (Int × zW) :=
  t_X9_meets_71 0 V
theorem e_X9_meets_70 {σ : zM} {m : Nat} (h : tOK m σ) {V : zW} : tR (tfi σ m) (f_X9_meets_70  (tw σ m V)) (t_X9_meets_70  V) := by
  unfold f_X9_meets_70 t_X9_meets_70
  exact (e_X9_meets_71 h)
noncomputable def t_X9_meets (x1 x2 : Int) (V : zW) : Option (Int × zW) :=
  (tga V 928 x2).bind fun v2 =>
  (tga V 914 v2).bind fun v4 =>
  if v4 ≠ 3 then
    t_X9_meets_70 V
  else
    (tga V 921 v2).bind fun v6 =>
    (tga V 921 x1).bind fun v8 =>
    if v6 ≠ v8 then
      t_X9_meets_70 V
    else
      (tga V 915 v2).bind fun v10 =>
      (tga V 915 x1).bind fun v12 =>
      if v10 = v12 then
        t_X9_meets_70 V
      else
        (tga V 915 v2).bind fun v14 =>
        tcj (t_X9_maskOf v14 V) fun v15 V16 =>
        if (zlcmp (jand (jshr v15 x2) 1) 1) ≠ 0 then
          t_X9_meets_70 V16
        else
          t_X9_meets_71 1 V16
theorem e_X9_meets {σ : zM} {m : Nat} (h : tOK m σ) {x1 x2 : Int} {V : zW} : tR (tfi σ m) (f_X9_meets (m : Int) x1 x2 (tw σ m V)) (t_X9_meets x1 x2 V) := by
  unfold f_X9_meets t_X9_meets
  refine te_gr h (f := 928) rfl ?_
  refine te_ga h rfl (fun v2 => ?_)
  refine te_gr h (f := 914) rfl ?_
  refine te_ga h rfl (fun v4 => ?_)
  refine te_if ?_ ?_
  · exact (e_X9_meets_70 h)
  · refine te_gr h (f := 921) rfl ?_
    refine te_ga h rfl (fun v6 => ?_)
    refine te_gr h (f := 921) rfl ?_
    refine te_ga h rfl (fun v8 => ?_)
    refine te_if ?_ ?_
    · exact (e_X9_meets_70 h)
    · refine te_gr h (f := 915) rfl ?_
      refine te_ga h rfl (fun v10 => ?_)
      refine te_gr h (f := 915) rfl ?_
      refine te_ga h rfl (fun v12 => ?_)
      refine te_if ?_ ?_
      · exact (e_X9_meets_70 h)
      · refine te_gr h (f := 915) rfl ?_
        refine te_ga h rfl (fun v14 => ?_)
        refine te_is h ?_
        refine te_cj (e_X9_maskOf h) (fun v15 V16 => ?_)
        refine te_if ?_ ?_
        · exact (e_X9_meets_70 h)
        · exact (e_X9_meets_71 h)
noncomputable def t_X9_can_173 (x2 : Int) (V : zW) : Option (Int × zW) :=
  zgd (z01 x2) <|
  some (x2, V)
theorem e_X9_can_173 {σ : zM} {m : Nat} (h : tOK m σ) {x2 : Int} {V : zW} : tR (tfi σ m) (f_X9_can_173 x2 (tw σ m V)) (t_X9_can_173 x2 V) := by
  unfold f_X9_can_173 t_X9_can_173
  refine te_gd ?_
  exact te_some rfl
noncomputable def t_X9_can_166 (x1 x3 t0 : Int) (V : zW) : Option ((Int × Int × zW) ⊕ (Int × zW)) :=
  zlet (zadd x3 1) fun y1 =>
  some (.inl (t0, y1, V))
theorem e_X9_can_166 {σ : zM} {m : Nat} (h : tOK m σ) {x1 x3 t0 : Int} {V : zW} : tR (Sum.map (fun s => (s.1, s.2.1, tw σ m s.2.2)) (tfi σ m)) (f_X9_can_166 (m : Int) x1 x3 t0 (tw σ m V)) (t_X9_can_166 x1 x3 t0 V) := by
  unfold f_X9_can_166 t_X9_can_166
  refine te_let (fun y1 => ?_)
  exact te_some rfl
noncomputable def t_X9_can_161 (x1 x3 : Int) (V : zW) : Option ((Int × Int × zW) ⊕ (Int × zW)) :=
  t_X9_can_166 x1 x3 1 V
theorem e_X9_can_161 {σ : zM} {m : Nat} (h : tOK m σ) {x1 x3 : Int} {V : zW} : tR (Sum.map (fun s => (s.1, s.2.1, tw σ m s.2.2)) (tfi σ m)) (f_X9_can_161 (m : Int) x1 x3 (tw σ m V)) (t_X9_can_161 x1 x3 V) := by
  unfold f_X9_can_161 t_X9_can_161
  exact (e_X9_can_166 h)
noncomputable def t_X9_can_140_b (x1 x2 x3 : Int) (V : zW) : Option ((Int × Int × zW) ⊕ (Int × zW)) :=
  zlet (V.1 927) fun v1 =>
  if v1 ≤ x3 then
    (t_X9_can_173 x2 V).map (fun r => (.inr r))
  else
    if x2 ≠ 0 then
      t_X9_can_161 x1 x3 V
    else
      tci (t_X9_meets x1 x3 V) fun v2 V3 =>
      if v2 = 0 then
        t_X9_can_166 x1 x3 0 V3
      else
        t_X9_can_161 x1 x3 V3
theorem e_X9_can_140_b {σ : zM} {m : Nat} (h : tOK m σ) {x1 x2 x3 : Int} {V : zW} : tR (Sum.map (fun s => (s.1, s.2.1, tw σ m s.2.2)) (tfi σ m)) (f_X9_can_140_b (m : Int) x1 x2 x3 (tw σ m V)) (t_X9_can_140_b x1 x2 x3 V) := by
  unfold f_X9_can_140_b t_X9_can_140_b
  refine te_gs h rfl (fun v1 => ?_)
  refine te_if ?_ ?_
  · exact te_map (e_X9_can_173 h) (fun r => rfl)
  · refine te_if ?_ ?_
    · exact (e_X9_can_161 h)
    · refine te_is h ?_
      refine te_ci (e_X9_meets h) (fun v2 V3 => ?_)
      refine te_if ?_ ?_
      · exact (e_X9_can_166 h)
      · exact (e_X9_can_161 h)
noncomputable def t_X9_can_140 (x1 x2 x3 : Int) (V : zW) : Option (Int × zW) :=
  zloop (fun s : Int × Int × zW => t_X9_can_140_b x1 s.1 s.2.1 s.2.2) (x2, x3, V)
theorem e_X9_can_140 {σ : zM} {m : Nat} (h : tOK m σ) {x1 x2 x3 : Int} {V : zW} : tR (tfi σ m) (f_X9_can_140 (m : Int) x1 x2 x3 (tw σ m V)) (t_X9_can_140 x1 x2 x3 V) := by
  unfold f_X9_can_140 t_X9_can_140
  refine te_loop (φ := (fun s => (s.1, s.2.1, tw σ m s.2.2))) (s := (x2, x3, V)) (fun s => ?_)
  exact e_X9_can_140_b h
noncomputable def t_X9_can_135 (t0 : Int) (V : zW) : Option (Int × zW) :=
  zgd (z01 t0) <|
  some (t0, V)
theorem e_X9_can_135 {σ : zM} {m : Nat} (h : tOK m σ) {t0 : Int} {V : zW} : tR (tfi σ m) (f_X9_can_135 t0 (tw σ m V)) (t_X9_can_135 t0 V) := by
  unfold f_X9_can_135 t_X9_can_135
  refine te_gd ?_
  exact te_some rfl
noncomputable def t_X9_can_90 (t0 : Int) (V : zW) : Option (Int × zW) :=
  zgd (z01 t0) <|
  some (t0, V)
theorem e_X9_can_90 {σ : zM} {m : Nat} (h : tOK m σ) {t0 : Int} {V : zW} : tR (tfi σ m) (f_X9_can_90 t0 (tw σ m V)) (t_X9_can_90 t0 V) := by
  unfold f_X9_can_90 t_X9_can_90
  refine te_gd ?_
  exact te_some rfl
noncomputable def t_X9_can_64 (t0 : Int) (V : zW) : Option (Int × zW) :=
  zgd (z01 t0) <|
  some (t0, V)
theorem e_X9_can_64 {σ : zM} {m : Nat} (h : tOK m σ) {t0 : Int} {V : zW} : tR (tfi σ m) (f_X9_can_64 t0 (tw σ m V)) (t_X9_can_64 t0 V) := by
  unfold f_X9_can_64 t_X9_can_64
  refine te_gd ?_
  exact te_some rfl

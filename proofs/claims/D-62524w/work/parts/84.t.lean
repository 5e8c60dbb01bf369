set_option maxRecDepth 100000
noncomputable def t_X9_wholeFormula_185 (x1 x2 : Int) (V : zW) : Option ((Int × Int × zW) ⊕ (Int × zW)) :=
  t_X9_wholeFormula_349 x1 x2 V
theorem e_X9_wholeFormula_185 {σ : zM} {m : Nat} (h : tOK m σ) {x1 x2 : Int} {V : zW} : tR (Sum.map (fun s => (s.1, s.2.1, tw σ m s.2.2)) (tfi σ m)) (f_X9_wholeFormula_185 (m : Int) x1 x2 (tw σ m V)) (t_X9_wholeFormula_185 x1 x2 V) := by
  unfold f_X9_wholeFormula_185 t_X9_wholeFormula_185
  exact (e_X9_wholeFormula_349 h)
noncomputable def t_X9_wholeFormula_176 (V : zW) : Option (Int × zW) :=
  zgd (z01 0) <|
  some (0, V)
theorem e_X9_wholeFormula_176 {σ : zM} {m : Nat} (h : tOK m σ) {V : zW} : tR (tfi σ m) (f_X9_wholeFormula_176  (tw σ m V)) (t_X9_wholeFormula_176  V) := by
  unfold f_X9_wholeFormula_176 t_X9_wholeFormula_176
  refine te_gd ?_
  exact te_some rfl
noncomputable def t_X9_wholeFormula_169 (x1 : Int) (V : zW) : Option ((Int × Int × zW) ⊕ (Int × zW)) :=
  tci (t_X9_atom V) fun v1 V2 =>
  if v1 ≠ 0 then
    tcv (t_X9_putAll 5 V2) fun V3 =>
    t_X9_wholeFormula_185 x1 0 V3
  else
    (t_X9_wholeFormula_176 V2).map (fun r => (.inr r))
theorem e_X9_wholeFormula_169 {σ : zM} {m : Nat} (h : tOK m σ) {x1 : Int} {V : zW} : tR (Sum.map (fun s => (s.1, s.2.1, tw σ m s.2.2)) (tfi σ m)) (f_X9_wholeFormula_169 (m : Int) x1 (tw σ m V)) (t_X9_wholeFormula_169 x1 V) := by
  unfold f_X9_wholeFormula_169 t_X9_wholeFormula_169
  refine te_is h ?_
  refine te_ci (e_X9_atom h) (fun v1 V2 => ?_)
  refine te_if ?_ ?_
  · refine te_is h ?_
    refine te_cv (e_X9_putAll h) (fun V3 => ?_)
    exact (e_X9_wholeFormula_185 h)
  · exact te_map (e_X9_wholeFormula_176 h) (fun r => rfl)
noncomputable def t_X9_wholeFormula_164 (V : zW) : Option (Int × zW) :=
  tci (t_X9_fail V) fun v1 V2 =>
  zgd (z01 v1) <|
  some (v1, V2)
theorem e_X9_wholeFormula_164 {σ : zM} {m : Nat} (h : tOK m σ) {V : zW} : tR (tfi σ m) (f_X9_wholeFormula_164 (m : Int) (tw σ m V)) (t_X9_wholeFormula_164  V) := by
  unfold f_X9_wholeFormula_164 t_X9_wholeFormula_164
  refine te_is h ?_
  refine te_ci (e_X9_fail h) (fun v1 V2 => ?_)
  refine te_gd ?_
  exact te_some rfl
noncomputable def t_X9_wholeFormula_147 (x2 t0 t1 : Int) (V : zW) : Option ((Int × Int × zW) ⊕ (Int × zW)) :=
  zlet ((zadd t1 t0)) fun y1 =>
  t_X9_wholeFormula_185 y1 x2 V
theorem e_X9_wholeFormula_147 {σ : zM} {m : Nat} (h : tOK m σ) {x2 t0 t1 : Int} {V : zW} : tR (Sum.map (fun s => (s.1, s.2.1, tw σ m s.2.2)) (tfi σ m)) (f_X9_wholeFormula_147 (m : Int) x2 t0 t1 (tw σ m V)) (t_X9_wholeFormula_147 x2 t0 t1 V) := by
  unfold f_X9_wholeFormula_147 t_X9_wholeFormula_147
  refine te_let (fun y1 => ?_)
  exact (e_X9_wholeFormula_185 h)
noncomputable def t_X9_wholeFormula_132 (V : zW) : Option (Int × zW) :=
  zgd (z01 0) <|
  some (0, V)
theorem e_X9_wholeFormula_132 {σ : zM} {m : Nat} (h : tOK m σ) {V : zW} : tR (tfi σ m) (f_X9_wholeFormula_132  (tw σ m V)) (t_X9_wholeFormula_132  V) := by
  unfold f_X9_wholeFormula_132 t_X9_wholeFormula_132
  refine te_gd ?_
  exact te_some rfl
noncomputable def t_X9_wholeFormula_116 (x1 x2 x3 t0 : Int) (V : zW) : Option ((Int × Int × zW) ⊕ (Int × zW)) :=
  if t0 < 0 then
    if x3 = 123 then
      t_X9_wholeFormula_169 x1 V
    else
      if x3 = 64 then
        t_X9_wholeFormula_169 x1 V
      else
        (t_X9_wholeFormula_164 V).map (fun r => (.inr r))
  else
    tci (t_X9_push t0 V) fun v1 V2 =>
    if v1 ≠ 0 then
      if t0 ≠ 16 then
        t_X9_wholeFormula_147 x2 0 x1 V2
      else
        t_X9_wholeFormula_147 x2 1 x1 V2
    else
      (t_X9_wholeFormula_132 V2).map (fun r => (.inr r))
theorem e_X9_wholeFormula_116 {σ : zM} {m : Nat} (h : tOK m σ) {x1 x2 x3 t0 : Int} {V : zW} : tR (Sum.map (fun s => (s.1, s.2.1, tw σ m s.2.2)) (tfi σ m)) (f_X9_wholeFormula_116 (m : Int) x1 x2 x3 t0 (tw σ m V)) (t_X9_wholeFormula_116 x1 x2 x3 t0 V) := by
  unfold f_X9_wholeFormula_116 t_X9_wholeFormula_116
  refine te_if ?_ ?_
  · refine te_if ?_ ?_
    · exact (e_X9_wholeFormula_169 h)
    · refine te_if ?_ ?_
      · exact (e_X9_wholeFormula_169 h)
      · exact te_map (e_X9_wholeFormula_164 h) (fun r => rfl)
  · refine te_is h ?_
    refine te_ci (e_X9_push h) (fun v1 V2 => ?_)
    refine te_if ?_ ?_
    · refine te_if ?_ ?_
      · exact (e_X9_wholeFormula_147 h)
      · exact (e_X9_wholeFormula_147 h)
    · exact te_map (e_X9_wholeFormula_132 h) (fun r => rfl)
noncomputable def t_X9_wholeFormula_62 (x1 x2 : Int) (V : zW) : Option ((Int × Int × zW) ⊕ (Int × zW)) :=
  tci (t_X9_here V) fun v1 V2 =>
  if x2 = 0 then
    if v1 ≠ 41 then
      if v1 ≠ 62 then
        if v1 ≠ 124 then
          if v1 ≠ 38 then
            if v1 ≠ 85 then
              if v1 ≠ 82 then
                t_X9_wholeFormula_295 x1 (-1) V2
              else
                t_X9_wholeFormula_295 x1 13 V2
            else
              t_X9_wholeFormula_295 x1 12 V2
          else
            t_X9_wholeFormula_295 x1 9 V2
        else
          t_X9_wholeFormula_295 x1 10 V2
      else
        t_X9_wholeFormula_295 x1 11 V2
    else
      if x1 ≠ 0 then
        tcv (t_X9_putAll 1 V2) fun V3 =>
        zlet (V3.1 942) fun v4 =>
        twl (us V3 942 (zsub v4 1)) fun V5 =>
        zlet (zadd x1 (-1)) fun y6 =>
        zlet (V5.1 903) fun v7 =>
        twl (us V5 903 (zadd v7 1)) fun V8 =>
        tcv (t_X9_putAll 5 V8) fun V9 =>
        t_X9_wholeFormula_349 y6 x2 V9
      else
        (t_X9_wholeFormula_198 V2).map (fun r => (.inr r))
  else
    if v1 ≠ 33 then
      if v1 ≠ 71 then
        if v1 ≠ 70 then
          if v1 ≠ 40 then
            t_X9_wholeFormula_116 x1 x2 v1 (-1) V2
          else
            t_X9_wholeFormula_116 x1 x2 v1 16 V2
        else
          t_X9_wholeFormula_116 x1 x2 v1 15 V2
      else
        t_X9_wholeFormula_116 x1 x2 v1 14 V2
    else
      t_X9_wholeFormula_116 x1 x2 v1 8 V2
theorem e_X9_wholeFormula_62 {σ : zM} {m : Nat} (h : tOK m σ) {x1 x2 : Int} {V : zW} : tR (Sum.map (fun s => (s.1, s.2.1, tw σ m s.2.2)) (tfi σ m)) (f_X9_wholeFormula_62 (m : Int) x1 x2 (tw σ m V)) (t_X9_wholeFormula_62 x1 x2 V) := by
  unfold f_X9_wholeFormula_62 t_X9_wholeFormula_62
  refine te_is h ?_
  refine te_ci (e_X9_here h) (fun v1 V2 => ?_)
  refine te_if ?_ ?_
  · refine te_if ?_ ?_
    · refine te_if ?_ ?_
      · refine te_if ?_ ?_
        · refine te_if ?_ ?_
          · refine te_if ?_ ?_
            · refine te_if ?_ ?_
              · exact (e_X9_wholeFormula_295 h)
              · exact (e_X9_wholeFormula_295 h)
            · exact (e_X9_wholeFormula_295 h)
          · exact (e_X9_wholeFormula_295 h)
        · exact (e_X9_wholeFormula_295 h)
      · exact (e_X9_wholeFormula_295 h)
    · refine te_if ?_ ?_
      · refine te_is h ?_
        refine te_cv (e_X9_putAll h) (fun V3 => ?_)
        refine te_gs h rfl (fun v4 => ?_)
        refine te_ps h rfl (fun V5 => ?_)
        refine te_let (fun y6 => ?_)
        refine te_gs h rfl (fun v7 => ?_)
        refine te_ps h rfl (fun V8 => ?_)
        refine te_is h ?_
        refine te_cv (e_X9_putAll h) (fun V9 => ?_)
        exact (e_X9_wholeFormula_349 h)
      · exact te_map (e_X9_wholeFormula_198 h) (fun r => rfl)
  · refine te_if ?_ ?_
    · refine te_if ?_ ?_
      · refine te_if ?_ ?_
        · refine te_if ?_ ?_
          · exact (e_X9_wholeFormula_116 h)
          · exact (e_X9_wholeFormula_116 h)
        · exact (e_X9_wholeFormula_116 h)
      · exact (e_X9_wholeFormula_116 h)
    · exact (e_X9_wholeFormula_116 h)
noncomputable def t_X9_wholeFormula_352 (x1 : Int) (V : zW) : Option (Int × zW) :=
  if x1 ≤ 0 then
    tcv (t_X9_putAll 1 V) fun V1 =>
    zgd (z01 1) <|
    some (1, V1)
  else
    tci (t_X9_fail V) fun v2 V3 =>
    zgd (z01 v2) <|
    some (v2, V3)
theorem e_X9_wholeFormula_352 {σ : zM} {m : Nat} (h : tOK m σ) {x1 : Int} {V : zW} : tR (tfi σ m) (f_X9_wholeFormula_352 (m : Int) x1 (tw σ m V)) (t_X9_wholeFormula_352 x1 V) := by
  unfold f_X9_wholeFormula_352 t_X9_wholeFormula_352
  refine te_if ?_ ?_
  · refine te_is h ?_
    refine te_cv (e_X9_putAll h) (fun V1 => ?_)
    refine te_gd ?_
    exact te_some rfl
  · refine te_is h ?_
    refine te_ci (e_X9_fail h) (fun v2 V3 => ?_)
    refine te_gd ?_
    exact te_some rfl
noncomputable def t_X9_wholeFormula_47_b (x1 x2 : Int) (V : zW) : Option ((Int × Int × zW) ⊕ (Int × zW)) :=
  if x2 ≠ 0 then
    t_X9_wholeFormula_62 x1 x2 V
  else
    zlet (V.1 903) fun v1 =>
    zlet (V.1 901) fun v2 =>
    if v2 ≤ v1 then
      (t_X9_wholeFormula_352 x1 V).map (fun r => (.inr r))
    else
      t_X9_wholeFormula_62 x1 x2 V
theorem e_X9_wholeFormula_47_b {σ : zM} {m : Nat} (h : tOK m σ) {x1 x2 : Int} {V : zW} : tR (Sum.map (fun s => (s.1, s.2.1, tw σ m s.2.2)) (tfi σ m)) (f_X9_wholeFormula_47_b (m : Int) x1 x2 (tw σ m V)) (t_X9_wholeFormula_47_b x1 x2 V) := by
  unfold f_X9_wholeFormula_47_b t_X9_wholeFormula_47_b
  refine te_if ?_ ?_
  · exact (e_X9_wholeFormula_62 h)
  · refine te_gs h rfl (fun v1 => ?_)
    refine te_gs h rfl (fun v2 => ?_)
    refine te_if ?_ ?_
    · exact te_map (e_X9_wholeFormula_352 h) (fun r => rfl)
    · exact (e_X9_wholeFormula_62 h)
noncomputable def t_X9_wholeFormula_47 (x1 x2 : Int) (V : zW) : Option (Int × zW) :=
  zloop (fun s : Int × Int × zW => t_X9_wholeFormula_47_b s.1 s.2.1 s.2.2) (x1, x2, V)
theorem e_X9_wholeFormula_47 {σ : zM} {m : Nat} (h : tOK m σ) {x1 x2 : Int} {V : zW} : tR (tfi σ m) (f_X9_wholeFormula_47 (m : Int) x1 x2 (tw σ m V)) (t_X9_wholeFormula_47 x1 x2 V) := by
  unfold f_X9_wholeFormula_47 t_X9_wholeFormula_47
  refine te_loop (φ := (fun s => (s.1, s.2.1, tw σ m s.2.2))) (s := (x1, x2, V)) (fun s => ?_)
  exact e_X9_wholeFormula_47_b h
noncomputable def t_X9_wholeFormula (V : zW) : Option (Int × zW) :=
  twl (us V 903 0) fun V1 =>
  twl (us V1 904 (-1)) fun V2 =>
  zlet (V2.1 967) fun v3 =>
  twl (us V2 936 v3) fun V4 =>
  twl (us V4 962 0) fun V5 =>
  twl (us V5 964 0) fun V6 =>
  twl (us V6 969 0) fun V7 =>
  twl (us V7 965 0) fun V8 =>
  twl (us V8 942 0) fun V9 =>
  t_X9_wholeFormula_47 0 1 V9
theorem e_X9_wholeFormula {σ : zM} {m : Nat} (h : tOK m σ) {V : zW} : tR (tfi σ m) (f_X9_wholeFormula (m : Int) (tw σ m V)) (t_X9_wholeFormula  V) := by
  unfold f_X9_wholeFormula t_X9_wholeFormula
  refine te_ps h rfl (fun V1 => ?_)
  refine te_ps h rfl (fun V2 => ?_)
  refine te_gs h rfl (fun v3 => ?_)
  refine te_ps h rfl (fun V4 => ?_)
  refine te_ps h rfl (fun V5 => ?_)
  refine te_ps h rfl (fun V6 => ?_)
  refine te_ps h rfl (fun V7 => ?_)
  refine te_ps h rfl (fun V8 => ?_)
  refine te_ps h rfl (fun V9 => ?_)
  exact (e_X9_wholeFormula_47 h)
noncomputable def t_X9_holdsAt_61 (t0 : Int) (V : zW) : Option (Int × zW) :=
  zgd (z01 t0) <|
  some (t0, V)
theorem e_X9_holdsAt_61 {σ : zM} {m : Nat} (h : tOK m σ) {t0 : Int} {V : zW} : tR (tfi σ m) (f_X9_holdsAt_61 t0 (tw σ m V)) (t_X9_holdsAt_61 t0 V) := by
  unfold f_X9_holdsAt_61 t_X9_holdsAt_61
  refine te_gd ?_
  exact te_some rfl
noncomputable def t_X9_holdsAt (x1 : Int) (V : zW) : Option (Int × zW) :=
  (tga V 970 x1).bind fun v2 =>
  if v2 < 0 then
    (tga V 972 x1).bind fun v4 =>
    (tga V 973 x1).bind fun v6 =>
    tci (t_X9_worth v4 v6 V) fun v7 V8 =>
    if v7 = 0 then
      t_X9_holdsAt_61 0 V8
    else
      t_X9_holdsAt_61 1 V8
  else
    (tga V 970 x1).bind fun v11 =>
    (tga V 958 v11).bind fun v12 =>
    (tga V 971 x1).bind fun v14 =>
    if v12 ≠ v14 then
      t_X9_holdsAt_61 0 V
    else
      t_X9_holdsAt_61 1 V
theorem e_X9_holdsAt {σ : zM} {m : Nat} (h : tOK m σ) {x1 : Int} {V : zW} : tR (tfi σ m) (f_X9_holdsAt (m : Int) x1 (tw σ m V)) (t_X9_holdsAt x1 V) := by
  unfold f_X9_holdsAt t_X9_holdsAt
  refine te_gr h (f := 970) rfl ?_
  refine te_ga h rfl (fun v2 => ?_)
  refine te_if ?_ ?_
  · refine te_gr h (f := 972) rfl ?_
    refine te_ga h rfl (fun v4 => ?_)
    refine te_gr h (f := 973) rfl ?_
    refine te_ga h rfl (fun v6 => ?_)
    refine te_is h ?_
    refine te_ci (e_X9_worth h) (fun v7 V8 => ?_)
    refine te_if ?_ ?_
    · exact (e_X9_holdsAt_61 h)
    · exact (e_X9_holdsAt_61 h)
  · refine te_gr h (f := 958) rfl ?_
    refine te_gr h (f := 970) rfl ?_
    refine te_ga h rfl (fun v11 => ?_)
    refine te_ga h rfl (fun v12 => ?_)
    refine te_gr h (f := 971) rfl ?_
    refine te_ga h rfl (fun v14 => ?_)
    refine te_if ?_ ?_
    · exact (e_X9_holdsAt_61 h)
    · exact (e_X9_holdsAt_61 h)
noncomputable def t_X9_looked_255 (x4 : Int) (V : zW) : Option (Int × zW) :=
  (tga V 960 0).bind fun v2 =>
  some ((zor x4 (zshl v2 6)), V)
theorem e_X9_looked_255 {σ : zM} {m : Nat} (h : tOK m σ) {x4 : Int} {V : zW} : tR (tfi σ m) (f_X9_looked_255 (m : Int) x4 (tw σ m V)) (t_X9_looked_255 x4 V) := by
  unfold f_X9_looked_255 t_X9_looked_255
  refine te_gr h (f := 960) rfl ?_
  refine te_ga h rfl (fun v2 => ?_)
  exact te_some rfl
noncomputable def t_X9_looked_249 (x1 x2 x3 x4 x5 x6 : Int) (V : zW) : Option ((Int × Int × Int × Int × zW) ⊕ (Int × zW)) :=
  zlet (zadd x6 1) fun y1 =>
  some (.inl (x3, x4, x5, y1, V))
theorem e_X9_looked_249 {σ : zM} {m : Nat} (h : tOK m σ) {x1 x2 x3 x4 x5 x6 : Int} {V : zW} : tR (Sum.map (fun s => (s.1, s.2.1, s.2.2.1, s.2.2.2.1, tw σ m s.2.2.2.2)) (tfi σ m)) (f_X9_looked_249 (m : Int) x1 x2 x3 x4 x5 x6 (tw σ m V)) (t_X9_looked_249 x1 x2 x3 x4 x5 x6 V) := by
  unfold f_X9_looked_249 t_X9_looked_249
  refine te_let (fun y1 => ?_)
  exact te_some rfl
noncomputable def t_X9_looked_96 (x1 x2 x3 x4 x5 x6 : Int) (V : zW) : Option ((Int × Int × Int × Int × zW) ⊕ (Int × zW)) :=
  (tga V 960 (zsub x3 1)).bind fun v2 =>
  zlet ((zor x4 (zshl v2 (zmul 2 x5)))) fun y3 =>
  (tpa V 960 (zsub x3 1) (zand (zshr x2 x5) 1)).bind fun V5 =>
  zlet (zadd x5 1) fun y6 =>
  t_X9_looked_249 x1 x2 x3 y3 y6 x6 V5
theorem e_X9_looked_96 {σ : zM} {m : Nat} (h : tOK m σ) {x1 x2 x3 x4 x5 x6 : Int} {V : zW} : tR (Sum.map (fun s => (s.1, s.2.1, s.2.2.1, s.2.2.2.1, tw σ m s.2.2.2.2)) (tfi σ m)) (f_X9_looked_96 (m : Int) x1 x2 x3 x4 x5 x6 (tw σ m V)) (t_X9_looked_96 x1 x2 x3 x4 x5 x6 V) := by
  unfold f_X9_looked_96 t_X9_looked_96
  refine te_gr h (f := 960) rfl ?_
  refine te_ga h rfl (fun v2 => ?_)
  refine te_let (fun y3 => ?_)
  refine te_gr h (f := 960) rfl ?_
  refine te_pa h rfl (fun V5 => ?_)
  refine te_let (fun y6 => ?_)
  exact (e_X9_looked_249 h)
noncomputable def t_X9_looked_248 (x1 x2 x3 x4 x5 x6 t0 t1 : Int) (V : zW) : Option ((Int × Int × Int × Int × zW) ⊕ (Int × zW)) :=
  (tpa V 960 t1 t0).bind fun V1 =>
  t_X9_looked_249 x1 x2 x3 x4 x5 x6 V1
theorem e_X9_looked_248 {σ : zM} {m : Nat} (h : tOK m σ) {x1 x2 x3 x4 x5 x6 t0 t1 : Int} {V : zW} : tR (Sum.map (fun s => (s.1, s.2.1, s.2.2.1, s.2.2.2.1, tw σ m s.2.2.2.2)) (tfi σ m)) (f_X9_looked_248 (m : Int) x1 x2 x3 x4 x5 x6 t0 t1 (tad m 960) (tw σ m V)) (t_X9_looked_248 x1 x2 x3 x4 x5 x6 t0 t1 V) := by
  unfold f_X9_looked_248 t_X9_looked_248
  refine te_pa h rfl (fun V1 => ?_)
  exact (e_X9_looked_249 h)
noncomputable def t_X9_looked_11_b (x1 x2 x3 x4 x5 x6 : Int) (V : zW) : Option ((Int × Int × Int × Int × zW) ⊕ (Int × zW)) :=
  zlet (V.1 962) fun v1 =>
  if v1 ≤ x6 then
    (t_X9_looked_255 x4 V).map (fun r => (.inr r))
  else
    (tga V 963 x6).bind fun v3 =>
    if 8 ≤ v3 then
      if v3 ≠ 8 then
        if v3 = 14 then
          t_X9_looked_96 x1 x2 x3 x4 x5 x6 V
        else
          if v3 ≠ 15 then
            zlet (zadd x3 (-1)) fun y4 =>
            (tga V 960 (zsub y4 1)).bind fun v6 =>
            (tga V 960 y4).bind fun v8 =>
            if v3 < 12 then
              if v3 ≠ 9 then
                if v3 ≠ 10 then
                  t_X9_looked_248 x1 x2 y4 x4 x5 x6 (zor (zsub 1 v6) v8) (zsub y4 1) V
                else
                  t_X9_looked_248 x1 x2 y4 x4 x5 x6 (zor v6 v8) (zsub y4 1) V
              else
                t_X9_looked_248 x1 x2 y4 x4 x5 x6 (zand v6 v8) (zsub y4 1) V
            else
              zlet ((zor x4 (zor (zshl v6 (zmul 2 x5)) (zshl v8 (zadd (zmul 2 x5) 1))))) fun y10 =>
              (tpa V 960 (zsub y4 1) (zand (zshr x2 x5) 1)).bind fun V12 =>
              zlet (zadd x5 1) fun y13 =>
              t_X9_looked_249 x1 x2 y4 y10 y13 x6 V12
          else
            t_X9_looked_96 x1 x2 x3 x4 x5 x6 V
      else
        (tga V 960 (zsub x3 1)).bind fun v16 =>
        (tpa V 960 (zsub x3 1) (zsub 1 v16)).bind fun V17 =>
        t_X9_looked_249 x1 x2 x3 x4 x5 x6 V17
    else
      (tpa V 960 x3 (zand (zshr x1 v3) 1)).bind fun V19 =>
      zlet (zadd x3 1) fun y20 =>
      t_X9_looked_249 x1 x2 y20 x4 x5 x6 V19
theorem e_X9_looked_11_b {σ : zM} {m : Nat} (h : tOK m σ) {x1 x2 x3 x4 x5 x6 : Int} {V : zW} : tR (Sum.map (fun s => (s.1, s.2.1, s.2.2.1, s.2.2.2.1, tw σ m s.2.2.2.2)) (tfi σ m)) (f_X9_looked_11_b (m : Int) x1 x2 x3 x4 x5 x6 (tw σ m V)) (t_X9_looked_11_b x1 x2 x3 x4 x5 x6 V) := by
  unfold f_X9_looked_11_b t_X9_looked_11_b
  refine te_gs h rfl (fun v1 => ?_)
  refine te_if ?_ ?_
  · exact te_map (e_X9_looked_255 h) (fun r => rfl)
  · refine te_gr h (f := 963) rfl ?_
    refine te_ga h rfl (fun v3 => ?_)
    refine te_if ?_ ?_
    · refine te_if ?_ ?_
      · refine te_if ?_ ?_
        · exact (e_X9_looked_96 h)
        · refine te_if ?_ ?_
          · refine te_let (fun y4 => ?_)
            refine te_gr h (f := 960) rfl ?_
            refine te_ga h rfl (fun v6 => ?_)
            refine te_gr h (f := 960) rfl ?_
            refine te_ga h rfl (fun v8 => ?_)
            refine te_if ?_ ?_
            · refine te_gr h (f := 960) rfl ?_
              refine te_if ?_ ?_
              · refine te_if ?_ ?_
                · exact (e_X9_looked_248 h)
                · exact (e_X9_looked_248 h)
              · exact (e_X9_looked_248 h)
            · refine te_let (fun y10 => ?_)
              refine te_gr h (f := 960) rfl ?_
              refine te_pa h rfl (fun V12 => ?_)
              refine te_let (fun y13 => ?_)
              exact (e_X9_looked_249 h)
          · exact (e_X9_looked_96 h)
      · refine te_gr h (f := 960) rfl ?_
        refine te_gr h (f := 960) rfl ?_
        refine te_ga h rfl (fun v16 => ?_)
        refine te_pa h rfl (fun V17 => ?_)
        exact (e_X9_looked_249 h)
    · refine te_gr h (f := 960) rfl ?_
      refine te_pa h rfl (fun V19 => ?_)
      refine te_let (fun y20 => ?_)
      exact (e_X9_looked_249 h)
noncomputable def t_X9_looked_11 (x1 x2 x3 x4 x5 x6 : Int) (V : zW) : Option (Int × zW) :=
  zloop (fun s : Int × Int × Int × Int × zW => t_X9_looked_11_b x1 x2 s.1 s.2.1 s.2.2.1 s.2.2.2.1 s.2.2.2.2) (x3, x4, x5, x6, V)
theorem e_X9_looked_11 {σ : zM} {m : Nat} (h : tOK m σ) {x1 x2 x3 x4 x5 x6 : Int} {V : zW} : tR (tfi σ m) (f_X9_looked_11 (m : Int) x1 x2 x3 x4 x5 x6 (tw σ m V)) (t_X9_looked_11 x1 x2 x3 x4 x5 x6 V) := by
  unfold f_X9_looked_11 t_X9_looked_11
  refine te_loop (φ := (fun s => (s.1, s.2.1, s.2.2.1, s.2.2.2.1, tw σ m s.2.2.2.2))) (s := (x3, x4, x5, x6, V)) (fun s => ?_)
  exact e_X9_looked_11_b h
noncomputable def t_X9_looked (x1 x2 : Int) (V : zW) : Option (Int × zW) :=
  t_X9_looked_11 x1 x2 0 0 0 0 V
theorem e_X9_looked {σ : zM} {m : Nat} (h : tOK m σ) {x1 x2 : Int} {V : zW} : tR (tfi σ m) (f_X9_looked (m : Int) x1 x2 (tw σ m V)) (t_X9_looked x1 x2 V) := by
  unfold f_X9_looked t_X9_looked
  exact (e_X9_looked_11 h)
noncomputable def t_X9_formula_190 (V : zW) : Option (Int × zW) :=
  zgd (z01 1) <|
  twl (us V 961 1) fun V1 =>
  zlet (V1.1 964) fun v2 =>
  some (v2, V1)
theorem e_X9_formula_190 {σ : zM} {m : Nat} (h : tOK m σ) {V : zW} : tR (tfi σ m) (f_X9_formula_190 (m : Int) (tw σ m V)) (t_X9_formula_190  V) := by
  unfold f_X9_formula_190 t_X9_formula_190
  refine te_gd ?_
  refine te_ps h rfl (fun V1 => ?_)
  refine te_gs h rfl (fun v2 => ?_)
  exact te_some rfl
noncomputable def t_X9_formula_184 (x2 : Int) (V : zW) : Option ((Int × zW) ⊕ (Int × zW)) :=
  zlet (zadd x2 1) fun y1 =>
  some (.inl (y1, V))
theorem e_X9_formula_184 {σ : zM} {m : Nat} (h : tOK m σ) {x2 : Int} {V : zW} : tR (Sum.map (fun s => (s.1, tw σ m s.2)) (tfi σ m)) (f_X9_formula_184 (m : Int) x2 (tw σ m V)) (t_X9_formula_184 x2 V) := by
  unfold f_X9_formula_184 t_X9_formula_184
  refine te_let (fun y1 => ?_)
  exact te_some rfl
noncomputable def t_X9_formula_152_b (x2 x3 x4 : Int) (V : zW) : Option ((Int × zW) ⊕ ((Int × zW) ⊕ (Int × zW))) :=
  if 8 ≤ x4 then
    (t_X9_formula_184 x2 V).map (fun r => (.inr r))
  else
    tci (t_X9_looked x3 x4 V) fun v2 V3 =>
    (tpa V3 974 (zadd (zmul 8 x2) x4) v2).bind fun V4 =>
    zlet (zadd x4 1) fun y5 =>
    some (.inl (y5, V4))
theorem e_X9_formula_152_b {σ : zM} {m : Nat} (h : tOK m σ) {x2 x3 x4 : Int} {V : zW} : tR (Sum.map (fun s => (s.1, tw σ m s.2)) (Sum.map (fun s => (s.1, tw σ m s.2)) (tfi σ m))) (f_X9_formula_152_b (m : Int) x2 x3 x4 (tw σ m V)) (t_X9_formula_152_b x2 x3 x4 V) := by
  unfold f_X9_formula_152_b t_X9_formula_152_b
  refine te_if ?_ ?_
  · exact te_map (e_X9_formula_184 h) (fun r => rfl)
  · refine te_gr h (f := 974) rfl ?_
    refine te_is h ?_
    refine te_ci (e_X9_looked h) (fun v2 V3 => ?_)
    refine te_pa h rfl (fun V4 => ?_)
    refine te_let (fun y5 => ?_)
    exact te_some rfl
noncomputable def t_X9_formula_152 (x2 x3 x4 : Int) (V : zW) : Option ((Int × zW) ⊕ (Int × zW)) :=
  zloop (fun s : Int × zW => t_X9_formula_152_b x2 x3 s.1 s.2) (x4, V)
theorem e_X9_formula_152 {σ : zM} {m : Nat} (h : tOK m σ) {x2 x3 x4 : Int} {V : zW} : tR (Sum.map (fun s => (s.1, tw σ m s.2)) (tfi σ m)) (f_X9_formula_152 (m : Int) x2 x3 x4 (tw σ m V)) (t_X9_formula_152 x2 x3 x4 V) := by
  unfold f_X9_formula_152 t_X9_formula_152
  refine te_loop (φ := (fun s => (s.1, tw σ m s.2))) (s := (x4, V)) (fun s => ?_)
  exact e_X9_formula_152_b h
noncomputable def t_X9_formula_149 (x2 x3 : Int) (V : zW) : Option ((Int × zW) ⊕ (Int × zW)) :=
  t_X9_formula_152 x2 x3 0 V
theorem e_X9_formula_149 {σ : zM} {m : Nat} (h : tOK m σ) {x2 x3 : Int} {V : zW} : tR (Sum.map (fun s => (s.1, tw σ m s.2)) (tfi σ m)) (f_X9_formula_149 (m : Int) x2 x3 (tw σ m V)) (t_X9_formula_149 x2 x3 V) := by
  unfold f_X9_formula_149 t_X9_formula_149
  exact (e_X9_formula_152 h)
noncomputable def t_X9_formula_141 (x2 x4 t0 t1 : Int) (V : zW) : Option ((Int × Int × zW) ⊕ ((Int × zW) ⊕ (Int × zW))) :=
  zlet ((zor t1 t0)) fun y1 =>
  zlet (zadd x4 1) fun y2 =>
  some (.inl (y1, y2, V))
theorem e_X9_formula_141 {σ : zM} {m : Nat} (h : tOK m σ) {x2 x4 t0 t1 : Int} {V : zW} : tR (Sum.map (fun s => (s.1, s.2.1, tw σ m s.2.2)) (Sum.map (fun s => (s.1, tw σ m s.2)) (tfi σ m))) (f_X9_formula_141 (m : Int) x2 x4 t0 t1 (tw σ m V)) (t_X9_formula_141 x2 x4 t0 t1 V) := by
  unfold f_X9_formula_141 t_X9_formula_141
  refine te_let (fun y1 => ?_)
  refine te_let (fun y2 => ?_)
  exact te_some rfl
noncomputable def t_X9_formula_114_b (x2 x3 x4 : Int) (V : zW) : Option ((Int × Int × zW) ⊕ ((Int × zW) ⊕ (Int × zW))) :=
  zlet (V.1 969) fun v1 =>
  if v1 ≤ x4 then
    (t_X9_formula_149 x2 x3 V).map (fun r => (.inr r))
  else
    tci (t_X9_holdsAt x4 V) fun v2 V3 =>
    if v2 = 0 then
      t_X9_formula_141 x2 x4 0 x3 V3
    else
      t_X9_formula_141 x2 x4 (zshl 1 x4) x3 V3
theorem e_X9_formula_114_b {σ : zM} {m : Nat} (h : tOK m σ) {x2 x3 x4 : Int} {V : zW} : tR (Sum.map (fun s => (s.1, s.2.1, tw σ m s.2.2)) (Sum.map (fun s => (s.1, tw σ m s.2)) (tfi σ m))) (f_X9_formula_114_b (m : Int) x2 x3 x4 (tw σ m V)) (t_X9_formula_114_b x2 x3 x4 V) := by
  unfold f_X9_formula_114_b t_X9_formula_114_b
  refine te_gs h rfl (fun v1 => ?_)
  refine te_if ?_ ?_
  · exact te_map (e_X9_formula_149 h) (fun r => rfl)
  · refine te_is h ?_
    refine te_ci (e_X9_holdsAt h) (fun v2 V3 => ?_)
    refine te_if ?_ ?_
    · exact (e_X9_formula_141 h)
    · exact (e_X9_formula_141 h)
noncomputable def t_X9_formula_114 (x2 x3 x4 : Int) (V : zW) : Option ((Int × zW) ⊕ (Int × zW)) :=
  zloop (fun s : Int × Int × zW => t_X9_formula_114_b x2 s.1 s.2.1 s.2.2) (x3, x4, V)
theorem e_X9_formula_114 {σ : zM} {m : Nat} (h : tOK m σ) {x2 x3 x4 : Int} {V : zW} : tR (Sum.map (fun s => (s.1, tw σ m s.2)) (tfi σ m)) (f_X9_formula_114 (m : Int) x2 x3 x4 (tw σ m V)) (t_X9_formula_114 x2 x3 x4 V) := by
  unfold f_X9_formula_114 t_X9_formula_114
  refine te_loop (φ := (fun s => (s.1, s.2.1, tw σ m s.2.2))) (s := (x3, x4, V)) (fun s => ?_)
  exact e_X9_formula_114_b h
noncomputable def t_X9_formula_91_b (x2 : Int) (V : zW) : Option ((Int × zW) ⊕ (Int × zW)) :=
  zlet (V.1 944) fun v1 =>
  if v1 ≤ x2 then
    (t_X9_formula_190 V).map (fun r => (.inr r))
  else
    (tga V 947 x2).bind fun v3 =>
    tcv (t_X9_unpack v3 V) fun V4 =>
    t_X9_formula_114 x2 0 0 V4
theorem e_X9_formula_91_b {σ : zM} {m : Nat} (h : tOK m σ) {x2 : Int} {V : zW} : tR (Sum.map (fun s => (s.1, tw σ m s.2)) (tfi σ m)) (f_X9_formula_91_b (m : Int) x2 (tw σ m V)) (t_X9_formula_91_b x2 V) := by
  unfold f_X9_formula_91_b t_X9_formula_91_b
  refine te_gs h rfl (fun v1 => ?_)
  refine te_if ?_ ?_
  · exact te_map (e_X9_formula_190 h) (fun r => rfl)
  · refine te_gr h (f := 947) rfl ?_
    refine te_ga h rfl (fun v3 => ?_)
    refine te_is h ?_
    refine te_cv (e_X9_unpack h) (fun V4 => ?_)
    exact (e_X9_formula_114 h)
noncomputable def t_X9_formula_91 (x2 : Int) (V : zW) : Option (Int × zW) :=
  zloop (fun s : Int × zW => t_X9_formula_91_b s.1 s.2) (x2, V)
theorem e_X9_formula_91 {σ : zM} {m : Nat} (h : tOK m σ) {x2 : Int} {V : zW} : tR (tfi σ m) (f_X9_formula_91 (m : Int) x2 (tw σ m V)) (t_X9_formula_91 x2 V) := by
  unfold f_X9_formula_91 t_X9_formula_91
  refine te_loop (φ := (fun s => (s.1, tw σ m s.2))) (s := (x2, V)) (fun s => ?_)
  exact e_X9_formula_91_b h
noncomputable def t_X9_formula_80 (x1 t0 : Int) (V : zW) : Option (Int × zW) :=
  twl (us V 900 t0) fun V1 =>
  if x1 ≠ 0 then
    t_X9_formula_91 0 V1
  else
    some (0, V1)
theorem e_X9_formula_80 {σ : zM} {m : Nat} (h : tOK m σ) {x1 t0 : Int} {V : zW} : tR (tfi σ m) (f_X9_formula_80 (m : Int) x1 t0 (m : Int) (tw σ m V)) (t_X9_formula_80 x1 t0 V) := by
  unfold f_X9_formula_80 t_X9_formula_80
  refine te_ps h rfl (fun V1 => ?_)
  refine te_if ?_ ?_
  · exact (e_X9_formula_91 h)
  · exact te_some rfl
noncomputable def t_X9_formula_67 (x1 t0 : Int) (V : zW) : Option (Int × zW) :=
  twl (us V 905 t0) fun V1 =>
  if x1 = 0 then
    t_X9_formula_80 x1 2 V1
  else
    t_X9_formula_80 x1 0 V1
theorem e_X9_formula_67 {σ : zM} {m : Nat} (h : tOK m σ) {x1 t0 : Int} {V : zW} : tR (tfi σ m) (f_X9_formula_67 (m : Int) x1 t0 (m : Int) (tw σ m V)) (t_X9_formula_67 x1 t0 V) := by
  unfold f_X9_formula_67 t_X9_formula_67
  refine te_ps h rfl (fun V1 => ?_)
  refine te_if ?_ ?_
  · exact (e_X9_formula_80 h)
  · exact (e_X9_formula_80 h)
noncomputable def t_X9_formula_39 (t0 : Int) (V : zW) : Option (Int × zW) :=
  twl (us V 901 0) fun V1 =>
  zlet (V1.1 906) fun v2 =>
  if v2 ≠ 0 then
    if t0 = 0 then
      zlet (V1.1 904) fun v3 =>
      t_X9_formula_67 t0 v3 V1
    else
      t_X9_formula_67 t0 (-1) V1
  else
    some (0, V1)
theorem e_X9_formula_39 {σ : zM} {m : Nat} (h : tOK m σ) {t0 : Int} {V : zW} : tR (tfi σ m) (f_X9_formula_39 (m : Int) t0 (tw σ m V)) (t_X9_formula_39 t0 V) := by
  unfold f_X9_formula_39 t_X9_formula_39
  refine te_ps h rfl (fun V1 => ?_)
  refine te_gs h rfl (fun v2 => ?_)
  refine te_if ?_ ?_
  · refine te_if ?_ ?_
    · refine te_gs h rfl (fun v3 => ?_)
      exact (e_X9_formula_67 h)
    · exact (e_X9_formula_67 h)
  · exact te_some rfl
noncomputable def t_X9_formula_38 (V : zW) : Option (Int × zW) :=
  t_X9_formula_39 0 V
theorem e_X9_formula_38 {σ : zM} {m : Nat} (h : tOK m σ) {V : zW} : tR (tfi σ m) (f_X9_formula_38 (m : Int) (tw σ m V)) (t_X9_formula_38  V) := by
  unfold f_X9_formula_38 t_X9_formula_38
  exact (e_X9_formula_39 h)
noncomputable def t_X9_formula (V : zW) : Option (Int × zW) :=
  zgd (z01 0) <|
  twl (us V 961 0) fun V1 =>
  twl (us V1 978 (-1)) fun V2 =>
  twl (us V2 905 (-1)) fun V3 =>
  twl (us V3 900 1) fun V4 =>
  zlet (V4.1 906) fun v5 =>
  if v5 = 0 then
    t_X9_formula_38 V4
  else
    tci (t_X9_wholeFormula V4) fun v6 V7 =>
    if v6 = 0 then
      t_X9_formula_38 V7
    else
      t_X9_formula_39 1 V7
theorem e_X9_formula {σ : zM} {m : Nat} (h : tOK m σ) {V : zW} : tR (tfi σ m) (f_X9_formula (m : Int) (tw σ m V)) (t_X9_formula  V) := by
  unfold f_X9_formula t_X9_formula
  refine te_gd ?_
  refine te_ps h rfl (fun V1 => ?_)
  refine te_ps h rfl (fun V2 => ?_)
  refine te_ps h rfl (fun V3 => ?_)
  refine te_ps h rfl (fun V4 => ?_)
  refine te_gs h rfl (fun v5 => ?_)
  refine te_if ?_ ?_
  · exact (e_X9_formula_38 h)
  · refine te_is h ?_
    refine te_ci (e_X9_wholeFormula h) (fun v6 V7 => ?_)
    refine te_if ?_ ?_
    · exact (e_X9_formula_38 h)
    · exact (e_X9_formula_39 h)
noncomputable def t_X9_isTrue_25 (t0 : Int) (V : zW) : Option (Int × zW) :=
  zgd (z01 t0) <|
  some (t0, V)
theorem e_X9_isTrue_25 {σ : zM} {m : Nat} (h : tOK m σ) {t0 : Int} {V : zW} : tR (tfi σ m) (f_X9_isTrue_25 t0 (tw σ m V)) (t_X9_isTrue_25 t0 V) := by
  unfold f_X9_isTrue_25 t_X9_isTrue_25
  refine te_gd ?_
  exact te_some rfl
noncomputable def t_X9_isTrue (x1 x2 : Int) (V : zW) : Option (Int × zW) :=
  (tga V 974 (zadd (zmul 8 x1) x2)).bind fun v2 =>
  if (zand (zshr v2 6) 1) ≠ 1 then
    t_X9_isTrue_25 0 V
  else
    t_X9_isTrue_25 1 V
theorem e_X9_isTrue {σ : zM} {m : Nat} (h : tOK m σ) {x1 x2 : Int} {V : zW} : tR (tfi σ m) (f_X9_isTrue (m : Int) x1 x2 (tw σ m V)) (t_X9_isTrue x1 x2 V) := by
  unfold f_X9_isTrue t_X9_isTrue
  refine te_gr h (f := 974) rfl ?_
  refine te_ga h rfl (fun v2 => ?_)
  refine te_if ?_ ?_
  · exact (e_X9_isTrue_25 h)
  · exact (e_X9_isTrue_25 h)
noncomputable def t_X9_settled_178 (x3 : Int) (V : zW) : Option (Int × zW) :=
  some (x3, V)
theorem e_X9_settled_178 {σ : zM} {m : Nat} (h : tOK m σ) {x3 : Int} {V : zW} : tR (tfi σ m) (f_X9_settled_178 x3 (tw σ m V)) (t_X9_settled_178 x3 V) := by
  unfold f_X9_settled_178 t_X9_settled_178
  exact te_some rfl
noncomputable def t_X9_settled_172 (x1 x2 x3 x4 : Int) (V : zW) : Option ((Int × Int) ⊕ (Int × zW)) :=
  zlet (zadd x4 1) fun y1 =>
  some (.inl (x3, y1))
theorem e_X9_settled_172 {σ : zM} {m : Nat} (h : tOK m σ) {x1 x2 x3 x4 : Int} {V : zW} : tR (Sum.map id (tfi σ m)) (f_X9_settled_172 (m : Int) x1 x2 x3 x4 (tw σ m V)) (t_X9_settled_172 x1 x2 x3 x4 V) := by
  unfold f_X9_settled_172 t_X9_settled_172
  refine te_let (fun y1 => ?_)
  exact te_some rfl
noncomputable def t_X9_settled_165 (x1 x2 x3 x4 : Int) (V : zW) : Option ((Int × Int) ⊕ (Int × zW)) :=
  zlet ((zor x3 (zshl 1 x4))) fun y1 =>
  t_X9_settled_172 x1 x2 y1 x4 V
theorem e_X9_settled_165 {σ : zM} {m : Nat} (h : tOK m σ) {x1 x2 x3 x4 : Int} {V : zW} : tR (Sum.map id (tfi σ m)) (f_X9_settled_165 (m : Int) x1 x2 x3 x4 (tw σ m V)) (t_X9_settled_165 x1 x2 x3 x4 V) := by
  unfold f_X9_settled_165 t_X9_settled_165
  refine te_let (fun y1 => ?_)
  exact (e_X9_settled_172 h)
noncomputable def t_X9_settled_133 (x1 x2 x3 x4 x6 x7 t0 : Int) (V : zW) : Option ((Int × Int) ⊕ (Int × zW)) :=
  if t0 = 0 then
    if x7 = 1 then
      t_X9_settled_165 x1 x2 x3 x4 V
    else
      if x6 ≠ 0 then
        t_X9_settled_172 x1 x2 x3 x4 V
      else
        t_X9_settled_165 x1 x2 x3 x4 V
  else
    if x7 = 0 then
      t_X9_settled_165 x1 x2 x3 x4 V
    else
      if x6 ≠ 1 then
        t_X9_settled_172 x1 x2 x3 x4 V
      else
        t_X9_settled_165 x1 x2 x3 x4 V
theorem e_X9_settled_133 {σ : zM} {m : Nat} (h : tOK m σ) {x1 x2 x3 x4 x6 x7 t0 : Int} {V : zW} : tR (Sum.map id (tfi σ m)) (f_X9_settled_133 (m : Int) x1 x2 x3 x4 x6 x7 t0 (tw σ m V)) (t_X9_settled_133 x1 x2 x3 x4 x6 x7 t0 V) := by
  unfold f_X9_settled_133 t_X9_settled_133
  refine te_if ?_ ?_
  · refine te_if ?_ ?_
    · exact (e_X9_settled_165 h)
    · refine te_if ?_ ?_
      · exact (e_X9_settled_172 h)
      · exact (e_X9_settled_165 h)
  · refine te_if ?_ ?_
    · exact (e_X9_settled_165 h)
    · refine te_if ?_ ?_
      · exact (e_X9_settled_172 h)
      · exact (e_X9_settled_165 h)
noncomputable def t_X9_settled_128 (x1 x2 x3 x4 x6 x7 : Int) (V : zW) : Option ((Int × Int) ⊕ (Int × zW)) :=
  t_X9_settled_133 x1 x2 x3 x4 x6 x7 1 V
theorem e_X9_settled_128 {σ : zM} {m : Nat} (h : tOK m σ) {x1 x2 x3 x4 x6 x7 : Int} {V : zW} : tR (Sum.map id (tfi σ m)) (f_X9_settled_128 (m : Int) x1 x2 x3 x4 x6 x7 (tw σ m V)) (t_X9_settled_128 x1 x2 x3 x4 x6 x7 V) := by
  unfold f_X9_settled_128 t_X9_settled_128
  exact (e_X9_settled_133 h)
noncomputable def t_X9_settled_84 (x1 x2 x3 x4 t0 : Int) (V : zW) : Option ((Int × Int) ⊕ (Int × zW)) :=
  zlet ((zand (zshr x2 x4) 1)) fun y1 =>
  (tga V 968 x4).bind fun v4 =>
  (tga V 963 v4).bind fun v5 =>
  if v5 = 12 then
    t_X9_settled_128 x1 x2 x3 x4 t0 y1 V
  else
    (tga V 968 x4).bind fun v8 =>
    (tga V 963 v8).bind fun v9 =>
    if v9 ≠ 15 then
      t_X9_settled_133 x1 x2 x3 x4 t0 y1 0 V
    else
      t_X9_settled_128 x1 x2 x3 x4 t0 y1 V
theorem e_X9_settled_84 {σ : zM} {m : Nat} (h : tOK m σ) {x1 x2 x3 x4 t0 : Int} {V : zW} : tR (Sum.map id (tfi σ m)) (f_X9_settled_84 (m : Int) x1 x2 x3 x4 t0 (tw σ m V)) (t_X9_settled_84 x1 x2 x3 x4 t0 V) := by
  unfold f_X9_settled_84 t_X9_settled_84
  refine te_let (fun y1 => ?_)
  refine te_gr h (f := 963) rfl ?_
  refine te_gr h (f := 968) rfl ?_
  refine te_ga h rfl (fun v4 => ?_)
  refine te_ga h rfl (fun v5 => ?_)
  refine te_if ?_ ?_
  · exact (e_X9_settled_128 h)
  · refine te_gr h (f := 963) rfl ?_
    refine te_gr h (f := 968) rfl ?_
    refine te_ga h rfl (fun v8 => ?_)
    refine te_ga h rfl (fun v9 => ?_)
    refine te_if ?_ ?_
    · exact (e_X9_settled_133 h)
    · exact (e_X9_settled_128 h)
noncomputable def t_X9_settled_61 (x1 x2 x3 x4 x5 : Int) (V : zW) : Option ((Int × Int) ⊕ (Int × zW)) :=
  t_X9_settled_84 x1 x2 x3 x4 (zand (zshr x5 (zadd (zmul 2 x4) 1)) 1) V
theorem e_X9_settled_61 {σ : zM} {m : Nat} (h : tOK m σ) {x1 x2 x3 x4 x5 : Int} {V : zW} : tR (Sum.map id (tfi σ m)) (f_X9_settled_61 (m : Int) x1 x2 x3 x4 x5 (tw σ m V)) (t_X9_settled_61 x1 x2 x3 x4 x5 V) := by
  unfold f_X9_settled_61 t_X9_settled_61
  exact (e_X9_settled_84 h)
noncomputable def t_X9_settled_5_b (x1 x2 x3 x4 : Int) (V : zW) : Option ((Int × Int) ⊕ (Int × zW)) :=
  zlet (V.1 964) fun v1 =>
  if v1 ≤ x4 then
    (t_X9_settled_178 x3 V).map (fun r => (.inr r))
  else
    (tga V 974 (zadd (zmul 8 x1) x2)).bind fun v3 =>
    (tga V 968 x4).bind fun v6 =>
    (tga V 963 v6).bind fun v7 =>
    if v7 = 12 then
      t_X9_settled_61 x1 x2 x3 x4 v3 V
    else
      (tga V 968 x4).bind fun v10 =>
      (tga V 963 v10).bind fun v11 =>
      if v11 ≠ 13 then
        t_X9_settled_84 x1 x2 x3 x4 (zand (zshr v3 (zmul 2 x4)) 1) V
      else
        t_X9_settled_61 x1 x2 x3 x4 v3 V
theorem e_X9_settled_5_b {σ : zM} {m : Nat} (h : tOK m σ) {x1 x2 x3 x4 : Int} {V : zW} : tR (Sum.map id (tfi σ m)) (f_X9_settled_5_b (m : Int) x1 x2 x3 x4 (tw σ m V)) (t_X9_settled_5_b x1 x2 x3 x4 V) := by
  unfold f_X9_settled_5_b t_X9_settled_5_b
  refine te_gs h rfl (fun v1 => ?_)
  refine te_if ?_ ?_
  · exact te_map (e_X9_settled_178 h) (fun r => rfl)
  · refine te_gr h (f := 974) rfl ?_
    refine te_ga h rfl (fun v3 => ?_)
    refine te_gr h (f := 963) rfl ?_
    refine te_gr h (f := 968) rfl ?_
    refine te_ga h rfl (fun v6 => ?_)
    refine te_ga h rfl (fun v7 => ?_)
    refine te_if ?_ ?_
    · exact (e_X9_settled_61 h)
    · refine te_gr h (f := 963) rfl ?_
      refine te_gr h (f := 968) rfl ?_
      refine te_ga h rfl (fun v10 => ?_)
      refine te_ga h rfl (fun v11 => ?_)
      refine te_if ?_ ?_
      · exact (e_X9_settled_84 h)
      · exact (e_X9_settled_61 h)
noncomputable def t_X9_settled_5 (x1 x2 x3 x4 : Int) (V : zW) : Option (Int × zW) :=
  zloop (fun s : Int × Int => t_X9_settled_5_b x1 x2 s.1 s.2 V) (x3, x4)
theorem e_X9_settled_5 {σ : zM} {m : Nat} (h : tOK m σ) {x1 x2 x3 x4 : Int} {V : zW} : tR (tfi σ m) (f_X9_settled_5 (m : Int) x1 x2 x3 x4 (tw σ m V)) (t_X9_settled_5 x1 x2 x3 x4 V) := by
  unfold f_X9_settled_5 t_X9_settled_5
  refine te_loop (φ := id) (s := (x3, x4)) (fun s => ?_)
  exact e_X9_settled_5_b h
noncomputable def t_X9_settled (x1 x2 : Int) (V : zW) : Option (Int × zW) :=
  t_X9_settled_5 x1 x2 0 0 V
theorem e_X9_settled {σ : zM} {m : Nat} (h : tOK m σ) {x1 x2 : Int} {V : zW} : tR (tfi σ m) (f_X9_settled (m : Int) x1 x2 (tw σ m V)) (t_X9_settled x1 x2 V) := by
  unfold f_X9_settled t_X9_settled
  exact (e_X9_settled_5 h)
noncomputable def t_X9_before_63 (t0 : Int) (V : zW) : Option (Int × zW) :=
  some (t0, V)
theorem e_X9_before_63 {σ : zM} {m : Nat} (h : tOK m σ) {t0 : Int} {V : zW} : tR (tfi σ m) (f_X9_before_63 t0 (tw σ m V)) (t_X9_before_63 t0 V) := by
  unfold f_X9_before_63 t_X9_before_63
  exact te_some rfl
noncomputable def t_X9_before (x1 x2 x3 x4 : Int) (V : zW) : Option (Int × zW) :=
  (tga V 968 x1).bind fun v3 =>
  (tga V 963 v3).bind fun v4 =>
  if v4 ≠ 14 then
    if v4 ≠ 15 then
      if v4 ≠ 12 then
        t_X9_before_63 (zand x3 (zor x2 x4)) V
      else
        t_X9_before_63 (zor x3 (zand x2 x4)) V
    else
      t_X9_before_63 (zor x2 x4) V
  else
    t_X9_before_63 (zand x2 x4) V
theorem e_X9_before {σ : zM} {m : Nat} (h : tOK m σ) {x1 x2 x3 x4 : Int} {V : zW} : tR (tfi σ m) (f_X9_before (m : Int) x1 x2 x3 x4 (tw σ m V)) (t_X9_before x1 x2 x3 x4 V) := by
  unfold f_X9_before t_X9_before
  refine te_gr h (f := 963) rfl ?_
  refine te_gr h (f := 968) rfl ?_
  refine te_ga h rfl (fun v3 => ?_)
  refine te_ga h rfl (fun v4 => ?_)
  refine te_if ?_ ?_
  · refine te_if ?_ ?_
    · refine te_if ?_ ?_
      · exact (e_X9_before_63 h)
      · exact (e_X9_before_63 h)
    · exact (e_X9_before_63 h)
  · exact (e_X9_before_63 h)
noncomputable def t_X9_truthAt_71 (x3 : Int) (V : zW) : Option (Int × zW) :=
  some (x3, V)
theorem e_X9_truthAt_71 {σ : zM} {m : Nat} (h : tOK m σ) {x3 : Int} {V : zW} : tR (tfi σ m) (f_X9_truthAt_71 x3 (tw σ m V)) (t_X9_truthAt_71 x3 V) := by
  unfold f_X9_truthAt_71 t_X9_truthAt_71
  exact te_some rfl
noncomputable def t_X9_truthAt_5_b (x1 x2 x3 x4 : Int) (V : zW) : Option ((Int × Int × zW) ⊕ (Int × zW)) :=
  zlet (V.1 964) fun v1 =>
  if v1 ≤ x4 then
    (t_X9_truthAt_71 x3 V).map (fun r => (.inr r))
  else
    (tga V 974 (zadd (zmul 8 x1) x3)).bind fun v3 =>
    tci (t_X9_before x4 (zand (zshr v3 (zmul 2 x4)) 1) (zand (zshr v3 (zadd (zmul 2 x4) 1)) 1) (zand (zshr x2 x4) 1) V) fun v4 V5 =>
    zlet ((zor x3 (zshl v4 x4))) fun y6 =>
    zlet (zadd x4 1) fun y7 =>
    some (.inl (y6, y7, V5))
theorem e_X9_truthAt_5_b {σ : zM} {m : Nat} (h : tOK m σ) {x1 x2 x3 x4 : Int} {V : zW} : tR (Sum.map (fun s => (s.1, s.2.1, tw σ m s.2.2)) (tfi σ m)) (f_X9_truthAt_5_b (m : Int) x1 x2 x3 x4 (tw σ m V)) (t_X9_truthAt_5_b x1 x2 x3 x4 V) := by
  unfold f_X9_truthAt_5_b t_X9_truthAt_5_b
  refine te_gs h rfl (fun v1 => ?_)
  refine te_if ?_ ?_
  · exact te_map (e_X9_truthAt_71 h) (fun r => rfl)
  · refine te_gr h (f := 974) rfl ?_
    refine te_ga h rfl (fun v3 => ?_)
    refine te_is h ?_
    refine te_ci (e_X9_before h) (fun v4 V5 => ?_)
    refine te_let (fun y6 => ?_)
    refine te_let (fun y7 => ?_)
    exact te_some rfl
noncomputable def t_X9_truthAt_5 (x1 x2 x3 x4 : Int) (V : zW) : Option (Int × zW) :=
  zloop (fun s : Int × Int × zW => t_X9_truthAt_5_b x1 x2 s.1 s.2.1 s.2.2) (x3, x4, V)
theorem e_X9_truthAt_5 {σ : zM} {m : Nat} (h : tOK m σ) {x1 x2 x3 x4 : Int} {V : zW} : tR (tfi σ m) (f_X9_truthAt_5 (m : Int) x1 x2 x3 x4 (tw σ m V)) (t_X9_truthAt_5 x1 x2 x3 x4 V) := by
  unfold f_X9_truthAt_5 t_X9_truthAt_5
  refine te_loop (φ := (fun s => (s.1, s.2.1, tw σ m s.2.2))) (s := (x3, x4, V)) (fun s => ?_)
  exact e_X9_truthAt_5_b h
noncomputable def t_X9_truthAt (x1 x2 : Int) (V : zW) : Option (Int × zW) :=
  t_X9_truthAt_5 x1 x2 0 0 V
theorem e_X9_truthAt {σ : zM} {m : Nat} (h : tOK m σ) {x1 x2 : Int} {V : zW} : tR (tfi σ m) (f_X9_truthAt (m : Int) x1 x2 (tw σ m V)) (t_X9_truthAt x1 x2 V) := by
  unfold f_X9_truthAt t_X9_truthAt
  exact (e_X9_truthAt_5 h)
noncomputable def t_X9_away_23 (t0 : Int) (V : zW) : Option (Int × zW) :=
  some (t0, V)
theorem e_X9_away_23 {σ : zM} {m : Nat} (h : tOK m σ) {t0 : Int} {V : zW} : tR (tfi σ m) (f_X9_away_23 t0 (tw σ m V)) (t_X9_away_23 t0 V) := by
  unfold f_X9_away_23 t_X9_away_23
  exact te_some rfl
noncomputable def t_X9_away (x1 : Int) (V : zW) : Option (Int × zW) :=
  (tga V 977 x1).bind fun v2 =>
  if 0 ≤ v2 then
    (tga V 977 x1).bind fun v4 =>
    t_X9_away_23 (zand v4 4095) V
  else
    t_X9_away_23 (-1) V
theorem e_X9_away {σ : zM} {m : Nat} (h : tOK m σ) {x1 : Int} {V : zW} : tR (tfi σ m) (f_X9_away (m : Int) x1 (tw σ m V)) (t_X9_away x1 V) := by
  unfold f_X9_away t_X9_away
  refine te_gr h (f := 977) rfl ?_
  refine te_ga h rfl (fun v2 => ?_)
  refine te_if ?_ ?_
  · refine te_gr h (f := 977) rfl ?_
    refine te_ga h rfl (fun v4 => ?_)
    exact (e_X9_away_23 h)
  · exact (e_X9_away_23 h)
noncomputable def t_X9_measure_294 (V : zW) : Option zW :=
  some V
theorem e_X9_measure_294 {σ : zM} {m : Nat} (h : tOK m σ) {V : zW} : tR (tfv σ m) (f_X9_measure_294  (tw σ m V)) (t_X9_measure_294  V) := by
  unfold f_X9_measure_294 t_X9_measure_294
  exact te_some rfl
noncomputable def t_X9_measure_277 (x3 x4 x5 x6 : Int) (V : zW) : Option ((Int × Int × Int × zW) ⊕ zW) :=
  (tga V 977 x6).bind fun v2 =>
  zlet ((zsub (zshr v2 12) 1)) fun y3 =>
  some (.inl (x4, x5, y3, V))
theorem e_X9_measure_277 {σ : zM} {m : Nat} (h : tOK m σ) {x3 x4 x5 x6 : Int} {V : zW} : tR (Sum.map (fun s => (s.1, s.2.1, s.2.2.1, tw σ m s.2.2.2)) (tfv σ m)) (f_X9_measure_277 (m : Int) x3 x4 x5 x6 (tw σ m V)) (t_X9_measure_277 x3 x4 x5 x6 V) := by
  unfold f_X9_measure_277 t_X9_measure_277
  refine te_gr h (f := 977) rfl ?_
  refine te_ga h rfl (fun v2 => ?_)
  refine te_let (fun y3 => ?_)
  exact te_some rfl
noncomputable def t_X9_measure_271 (x3 x4 x5 x6 x7 x8 x9 x10 : Int) (V : zW) : Option ((Int × Int × zW) ⊕ ((Int × Int × Int × zW) ⊕ zW)) :=
  zlet (zadd x10 1) fun y1 =>
  some (.inl (x4, y1, V))
theorem e_X9_measure_271 {σ : zM} {m : Nat} (h : tOK m σ) {x3 x4 x5 x6 x7 x8 x9 x10 : Int} {V : zW} : tR (Sum.map (fun s => (s.1, s.2.1, tw σ m s.2.2)) (Sum.map (fun s => (s.1, s.2.1, s.2.2.1, tw σ m s.2.2.2)) (tfv σ m))) (f_X9_measure_271 (m : Int) x3 x4 x5 x6 x7 x8 x9 x10 (tw σ m V)) (t_X9_measure_271 x3 x4 x5 x6 x7 x8 x9 x10 V) := by
  unfold f_X9_measure_271 t_X9_measure_271
  refine te_let (fun y1 => ?_)
  exact te_some rfl
noncomputable def t_X9_measure_265 (x3 x4 x5 x6 x7 x8 x9 x10 x11 x12 x13 x14 : Int) (V : zW) : Option ((Int × Int × zW) ⊕ ((Int × Int × zW) ⊕ ((Int × Int × Int × zW) ⊕ zW))) :=
  zlet (zadd x14 1) fun y1 =>
  some (.inl (x4, y1, V))
theorem e_X9_measure_265 {σ : zM} {m : Nat} (h : tOK m σ) {x3 x4 x5 x6 x7 x8 x9 x10 x11 x12 x13 x14 : Int} {V : zW} : tR (Sum.map (fun s => (s.1, s.2.1, tw σ m s.2.2)) (Sum.map (fun s => (s.1, s.2.1, tw σ m s.2.2)) (Sum.map (fun s => (s.1, s.2.1, s.2.2.1, tw σ m s.2.2.2)) (tfv σ m)))) (f_X9_measure_265 (m : Int) x3 x4 x5 x6 x7 x8 x9 x10 x11 x12 x13 x14 (tw σ m V)) (t_X9_measure_265 x3 x4 x5 x6 x7 x8 x9 x10 x11 x12 x13 x14 V) := by
  unfold f_X9_measure_265 t_X9_measure_265
  refine te_let (fun y1 => ?_)
  exact te_some rfl
noncomputable def t_X9_measure_171_b (x3 x4 x5 x6 x7 x8 x9 x10 x11 x12 x13 x14 : Int) (V : zW) : Option ((Int × Int × zW) ⊕ ((Int × Int × zW) ⊕ ((Int × Int × Int × zW) ⊕ zW))) :=
  if x3 < x14 then
    (t_X9_measure_271 x3 x4 x5 x6 x7 x8 x9 x10 V).map (fun r => (.inr r))
  else
    zlet ((zadd (zadd (zmul 64 x11) (zmul 8 x12)) x14)) fun y1 =>
    if (zor x14 x9) ≠ (zand x6 7) then
      t_X9_measure_265 x3 x4 x5 x6 x7 x8 x9 x10 x11 x12 x13 x14 V
    else
      if (zand x13 (zxor x14 (-1))) ≠ 0 then
        t_X9_measure_265 x3 x4 x5 x6 x7 x8 x9 x10 x11 x12 x13 x14 V
      else
        (tga V 977 y1).bind fun v3 =>
        if v3 < 0 then
          tci (t_X9_away x6 V) fun v5 V6 =>
          (tpa V6 977 y1 (zadd v5 1)).bind fun V7 =>
          (tga V7 977 x4).bind fun v9 =>
          (tpa V7 977 x4 (zadd v9 (zshl (zadd y1 1) 12))).bind fun V10 =>
          t_X9_measure_265 x3 y1 x5 x6 x7 x8 x9 x10 x11 x12 x13 x14 V10
        else
          t_X9_measure_265 x3 x4 x5 x6 x7 x8 x9 x10 x11 x12 x13 x14 V
theorem e_X9_measure_171_b {σ : zM} {m : Nat} (h : tOK m σ) {x3 x4 x5 x6 x7 x8 x9 x10 x11 x12 x13 x14 : Int} {V : zW} : tR (Sum.map (fun s => (s.1, s.2.1, tw σ m s.2.2)) (Sum.map (fun s => (s.1, s.2.1, tw σ m s.2.2)) (Sum.map (fun s => (s.1, s.2.1, s.2.2.1, tw σ m s.2.2.2)) (tfv σ m)))) (f_X9_measure_171_b (m : Int) x3 x4 x5 x6 x7 x8 x9 x10 x11 x12 x13 x14 (tw σ m V)) (t_X9_measure_171_b x3 x4 x5 x6 x7 x8 x9 x10 x11 x12 x13 x14 V) := by
  unfold f_X9_measure_171_b t_X9_measure_171_b
  refine te_if ?_ ?_
  · exact te_map (e_X9_measure_271 h) (fun r => rfl)
  · refine te_let (fun y1 => ?_)
    refine te_if ?_ ?_
    · exact (e_X9_measure_265 h)
    · refine te_if ?_ ?_
      · exact (e_X9_measure_265 h)
      · refine te_gr h (f := 977) rfl ?_
        refine te_ga h rfl (fun v3 => ?_)
        refine te_if ?_ ?_
        · refine te_gr h (f := 977) rfl ?_
          refine te_is h ?_
          refine te_ci (e_X9_away h) (fun v5 V6 => ?_)
          refine te_pa h rfl (fun V7 => ?_)
          refine te_gr h (f := 977) rfl ?_
          refine te_ga h rfl (fun v9 => ?_)
          refine te_pa h rfl (fun V10 => ?_)
          exact (e_X9_measure_265 h)
        · exact (e_X9_measure_265 h)
noncomputable def t_X9_measure_171 (x3 x4 x5 x6 x7 x8 x9 x10 x11 x12 x13 x14 : Int) (V : zW) : Option ((Int × Int × zW) ⊕ ((Int × Int × Int × zW) ⊕ zW)) :=
  zloop (fun s : Int × Int × zW => t_X9_measure_171_b x3 s.1 x5 x6 x7 x8 x9 x10 x11 x12 x13 s.2.1 s.2.2) (x4, x14, V)
theorem e_X9_measure_171 {σ : zM} {m : Nat} (h : tOK m σ) {x3 x4 x5 x6 x7 x8 x9 x10 x11 x12 x13 x14 : Int} {V : zW} : tR (Sum.map (fun s => (s.1, s.2.1, tw σ m s.2.2)) (Sum.map (fun s => (s.1, s.2.1, s.2.2.1, tw σ m s.2.2.2)) (tfv σ m))) (f_X9_measure_171 (m : Int) x3 x4 x5 x6 x7 x8 x9 x10 x11 x12 x13 x14 (tw σ m V)) (t_X9_measure_171 x3 x4 x5 x6 x7 x8 x9 x10 x11 x12 x13 x14 V) := by
  unfold f_X9_measure_171 t_X9_measure_171
  refine te_loop (φ := (fun s => (s.1, s.2.1, tw σ m s.2.2))) (s := (x4, x14, V)) (fun s => ?_)
  exact e_X9_measure_171_b h
noncomputable def t_X9_measure_120_b (x3 x4 x5 x6 x7 x8 x9 x10 : Int) (V : zW) : Option ((Int × Int × zW) ⊕ ((Int × Int × Int × zW) ⊕ zW)) :=
  (tga V 953 (zadd x7 1)).bind fun v2 =>
  if v2 ≤ x10 then
    (t_X9_measure_277 x3 x4 x5 x6 V).map (fun r => (.inr r))
  else
    (tga V 954 x10).bind fun v5 =>
    (tga V 950 v5).bind fun v6 =>
    tci (t_X9_truthAt v6 x8 V) fun v7 V8 =>
    tci (t_X9_settled v6 v7 V8) fun v9 V10 =>
    t_X9_measure_171 x3 x4 x5 x6 x7 x8 x9 x10 v6 v7 v9 0 V10
theorem e_X9_measure_120_b {σ : zM} {m : Nat} (h : tOK m σ) {x3 x4 x5 x6 x7 x8 x9 x10 : Int} {V : zW} : tR (Sum.map (fun s => (s.1, s.2.1, tw σ m s.2.2)) (Sum.map (fun s => (s.1, s.2.1, s.2.2.1, tw σ m s.2.2.2)) (tfv σ m))) (f_X9_measure_120_b (m : Int) x3 x4 x5 x6 x7 x8 x9 x10 (tw σ m V)) (t_X9_measure_120_b x3 x4 x5 x6 x7 x8 x9 x10 V) := by
  unfold f_X9_measure_120_b t_X9_measure_120_b
  refine te_gr h (f := 953) rfl ?_
  refine te_ga h rfl (fun v2 => ?_)
  refine te_if ?_ ?_
  · exact te_map (e_X9_measure_277 h) (fun r => rfl)
  · refine te_gr h (f := 950) rfl ?_
    refine te_gr h (f := 954) rfl ?_
    refine te_ga h rfl (fun v5 => ?_)
    refine te_ga h rfl (fun v6 => ?_)
    refine te_is h ?_
    refine te_ci (e_X9_truthAt h) (fun v7 V8 => ?_)
    refine te_is h ?_
    refine te_ci (e_X9_settled h) (fun v9 V10 => ?_)
    exact (e_X9_measure_171 h)
noncomputable def t_X9_measure_120 (x3 x4 x5 x6 x7 x8 x9 x10 : Int) (V : zW) : Option ((Int × Int × Int × zW) ⊕ zW) :=
  zloop (fun s : Int × Int × zW => t_X9_measure_120_b x3 s.1 x5 x6 x7 x8 x9 s.2.1 s.2.2) (x4, x10, V)
theorem e_X9_measure_120 {σ : zM} {m : Nat} (h : tOK m σ) {x3 x4 x5 x6 x7 x8 x9 x10 : Int} {V : zW} : tR (Sum.map (fun s => (s.1, s.2.1, s.2.2.1, tw σ m s.2.2.2)) (tfv σ m)) (f_X9_measure_120 (m : Int) x3 x4 x5 x6 x7 x8 x9 x10 (tw σ m V)) (t_X9_measure_120 x3 x4 x5 x6 x7 x8 x9 x10 V) := by
  unfold f_X9_measure_120 t_X9_measure_120
  refine te_loop (φ := (fun s => (s.1, s.2.1, tw σ m s.2.2))) (s := (x4, x10, V)) (fun s => ?_)
  exact e_X9_measure_120_b h
noncomputable def t_X9_measure_72_b (x3 x4 x5 x6 : Int) (V : zW) : Option ((Int × Int × Int × zW) ⊕ zW) :=
  if x6 < 0 then
    (t_X9_measure_294 V).map (fun r => (.inr r))
  else
    if x5 ≤ 0 then
      (t_X9_measure_294 V).map (fun r => (.inr r))
    else
      zlet (zadd x5 (-1)) fun y1 =>
      zlet ((zshr x6 6)) fun y2 =>
      zlet ((zand (zshr x6 3) 7)) fun y3 =>
      tci (t_X9_settled y2 y3 V) fun v4 V5 =>
      (tga V5 953 y2).bind fun v7 =>
      t_X9_measure_120 x3 x4 y1 x6 y2 y3 v4 v7 V5
theorem e_X9_measure_72_b {σ : zM} {m : Nat} (h : tOK m σ) {x3 x4 x5 x6 : Int} {V : zW} : tR (Sum.map (fun s => (s.1, s.2.1, s.2.2.1, tw σ m s.2.2.2)) (tfv σ m)) (f_X9_measure_72_b (m : Int) x3 x4 x5 x6 (tw σ m V)) (t_X9_measure_72_b x3 x4 x5 x6 V) := by
  unfold f_X9_measure_72_b t_X9_measure_72_b
  refine te_if ?_ ?_
  · exact te_map (e_X9_measure_294 h) (fun r => rfl)
  · refine te_if ?_ ?_
    · exact te_map (e_X9_measure_294 h) (fun r => rfl)
    · refine te_let (fun y1 => ?_)
      refine te_let (fun y2 => ?_)
      refine te_let (fun y3 => ?_)
      refine te_is h ?_
      refine te_ci (e_X9_settled h) (fun v4 V5 => ?_)
      refine te_gr h (f := 953) rfl ?_
      refine te_ga h rfl (fun v7 => ?_)
      exact (e_X9_measure_120 h)
noncomputable def t_X9_measure_72 (x3 x4 x5 x6 : Int) (V : zW) : Option zW :=
  zloop (fun s : Int × Int × Int × zW => t_X9_measure_72_b x3 s.1 s.2.1 s.2.2.1 s.2.2.2) (x4, x5, x6, V)
theorem e_X9_measure_72 {σ : zM} {m : Nat} (h : tOK m σ) {x3 x4 x5 x6 : Int} {V : zW} : tR (tfv σ m) (f_X9_measure_72 (m : Int) x3 x4 x5 x6 (tw σ m V)) (t_X9_measure_72 x3 x4 x5 x6 V) := by
  unfold f_X9_measure_72 t_X9_measure_72
  refine te_loop (φ := (fun s => (s.1, s.2.1, s.2.2.1, tw σ m s.2.2.2))) (s := (x4, x5, x6, V)) (fun s => ?_)
  exact e_X9_measure_72_b h
noncomputable def t_X9_measure_38 (x1 x2 x3 : Int) (V : zW) : Option zW :=
  zlet ((zadd (zadd (zmul 64 x1) (zmul 8 x2)) x3)) fun y1 =>
  (tpa V 977 y1 0).bind fun V3 =>
  zlet (V3.1 944) fun v4 =>
  zlet ((zmul 64 v4)) fun y5 =>
  t_X9_measure_72 x3 y1 y5 y1 V3
theorem e_X9_measure_38 {σ : zM} {m : Nat} (h : tOK m σ) {x1 x2 x3 : Int} {V : zW} : tR (tfv σ m) (f_X9_measure_38 (m : Int) x1 x2 x3 (tw σ m V)) (t_X9_measure_38 x1 x2 x3 V) := by
  unfold f_X9_measure_38 t_X9_measure_38
  refine te_let (fun y1 => ?_)
  refine te_gr h (f := 977) rfl ?_
  refine te_pa h rfl (fun V3 => ?_)
  refine te_gs h rfl (fun v4 => ?_)
  refine te_let (fun y5 => ?_)
  exact (e_X9_measure_72 h)
noncomputable def t_X9_measure_12_b (x1 x2 x3 x4 : Int) (V : zW) : Option ((Int × zW) ⊕ zW) :=
  zlet (V.1 944) fun v1 =>
  if (zmul 64 v1) ≤ x4 then
    (t_X9_measure_38 x1 x2 x3 V).map (fun r => (.inr r))
  else
    (tpa V 977 x4 (-1)).bind fun V3 =>
    zlet (zadd x4 1) fun y4 =>
    some (.inl (y4, V3))
theorem e_X9_measure_12_b {σ : zM} {m : Nat} (h : tOK m σ) {x1 x2 x3 x4 : Int} {V : zW} : tR (Sum.map (fun s => (s.1, tw σ m s.2)) (tfv σ m)) (f_X9_measure_12_b (m : Int) x1 x2 x3 x4 (tw σ m V)) (t_X9_measure_12_b x1 x2 x3 x4 V) := by
  unfold f_X9_measure_12_b t_X9_measure_12_b
  refine te_gs h rfl (fun v1 => ?_)
  refine te_if ?_ ?_
  · exact te_map (e_X9_measure_38 h) (fun r => rfl)
  · refine te_gr h (f := 977) rfl ?_
    refine te_pa h rfl (fun V3 => ?_)
    refine te_let (fun y4 => ?_)
    exact te_some rfl
noncomputable def t_X9_measure_12 (x1 x2 x3 x4 : Int) (V : zW) : Option zW :=
  zloop (fun s : Int × zW => t_X9_measure_12_b x1 x2 x3 s.1 s.2) (x4, V)
theorem e_X9_measure_12 {σ : zM} {m : Nat} (h : tOK m σ) {x1 x2 x3 x4 : Int} {V : zW} : tR (tfv σ m) (f_X9_measure_12 (m : Int) x1 x2 x3 x4 (tw σ m V)) (t_X9_measure_12 x1 x2 x3 x4 V) := by
  unfold f_X9_measure_12 t_X9_measure_12
  refine te_loop (φ := (fun s => (s.1, tw σ m s.2))) (s := (x4, V)) (fun s => ?_)
  exact e_X9_measure_12_b h
noncomputable def t_X9_measure (x1 x2 : Int) (V : zW) : Option zW :=
  zlet (V.1 964) fun v1 =>
  zlet ((zsub (zshl 1 v1) 1)) fun y2 =>
  t_X9_measure_12 x1 x2 y2 0 V
theorem e_X9_measure {σ : zM} {m : Nat} (h : tOK m σ) {x1 x2 : Int} {V : zW} : tR (tfv σ m) (f_X9_measure (m : Int) x1 x2 (tw σ m V)) (t_X9_measure x1 x2 V) := by
  unfold f_X9_measure t_X9_measure
  refine te_gs h rfl (fun v1 => ?_)
  refine te_let (fun y2 => ?_)
  exact (e_X9_measure_12 h)
noncomputable def t_X9_nearest_141 (x4 : Int) (V : zW) : Option (Int × zW) :=
  some (x4, V)
theorem e_X9_nearest_141 {σ : zM} {m : Nat} (h : tOK m σ) {x4 : Int} {V : zW} : tR (tfi σ m) (f_X9_nearest_141 x4 (tw σ m V)) (t_X9_nearest_141 x4 V) := by
  unfold f_X9_nearest_141 t_X9_nearest_141
  exact te_some rfl
noncomputable def t_X9_nearest_135 (x1 x2 x3 x4 x5 : Int) (V : zW) : Option ((Int × Int × zW) ⊕ (Int × zW)) :=
  zlet (zadd x5 1) fun y1 =>
  some (.inl (x4, y1, V))
theorem e_X9_nearest_135 {σ : zM} {m : Nat} (h : tOK m σ) {x1 x2 x3 x4 x5 : Int} {V : zW} : tR (Sum.map (fun s => (s.1, s.2.1, tw σ m s.2.2)) (tfi σ m)) (f_X9_nearest_135 (m : Int) x1 x2 x3 x4 x5 (tw σ m V)) (t_X9_nearest_135 x1 x2 x3 x4 x5 V) := by
  unfold f_X9_nearest_135 t_X9_nearest_135
  refine te_let (fun y1 => ?_)
  exact te_some rfl
noncomputable def t_X9_nearest_129 (x1 x2 x3 x4 x5 x6 : Int) (V : zW) : Option ((Int × Int × zW) ⊕ ((Int × Int × zW) ⊕ (Int × zW))) :=
  zlet (zadd x6 1) fun y1 =>
  some (.inl (x4, y1, V))
theorem e_X9_nearest_129 {σ : zM} {m : Nat} (h : tOK m σ) {x1 x2 x3 x4 x5 x6 : Int} {V : zW} : tR (Sum.map (fun s => (s.1, s.2.1, tw σ m s.2.2)) (Sum.map (fun s => (s.1, s.2.1, tw σ m s.2.2)) (tfi σ m))) (f_X9_nearest_129 (m : Int) x1 x2 x3 x4 x5 x6 (tw σ m V)) (t_X9_nearest_129 x1 x2 x3 x4 x5 x6 V) := by
  unfold f_X9_nearest_129 t_X9_nearest_129
  refine te_let (fun y1 => ?_)
  exact te_some rfl
noncomputable def t_X9_nearest_123 (x1 x2 x3 x5 x6 x7 : Int) (V : zW) : Option ((Int × Int × zW) ⊕ ((Int × Int × zW) ⊕ (Int × zW))) :=
  zlet ((zadd x7 1)) fun y1 =>
  t_X9_nearest_129 x1 x2 x3 y1 x5 x6 V
theorem e_X9_nearest_123 {σ : zM} {m : Nat} (h : tOK m σ) {x1 x2 x3 x5 x6 x7 : Int} {V : zW} : tR (Sum.map (fun s => (s.1, s.2.1, tw σ m s.2.2)) (Sum.map (fun s => (s.1, s.2.1, tw σ m s.2.2)) (tfi σ m))) (f_X9_nearest_123 (m : Int) x1 x2 x3 x5 x6 x7 (tw σ m V)) (t_X9_nearest_123 x1 x2 x3 x5 x6 x7 V) := by
  unfold f_X9_nearest_123 t_X9_nearest_123
  refine te_let (fun y1 => ?_)
  exact (e_X9_nearest_129 h)
noncomputable def t_X9_nearest_102 (x1 x2 x3 x4 x5 x6 t0 : Int) (V : zW) : Option ((Int × Int × zW) ⊕ ((Int × Int × zW) ⊕ (Int × zW))) :=
  if t0 < 0 then
    t_X9_nearest_129 x1 x2 x3 x4 x5 x6 V
  else
    if x4 = 0 then
      t_X9_nearest_123 x1 x2 x3 x5 x6 t0 V
    else
      if x4 ≤ (zadd t0 1) then
        t_X9_nearest_129 x1 x2 x3 x4 x5 x6 V
      else
        t_X9_nearest_123 x1 x2 x3 x5 x6 t0 V
theorem e_X9_nearest_102 {σ : zM} {m : Nat} (h : tOK m σ) {x1 x2 x3 x4 x5 x6 t0 : Int} {V : zW} : tR (Sum.map (fun s => (s.1, s.2.1, tw σ m s.2.2)) (Sum.map (fun s => (s.1, s.2.1, tw σ m s.2.2)) (tfi σ m))) (f_X9_nearest_102 (m : Int) x1 x2 x3 x4 x5 x6 t0 (tw σ m V)) (t_X9_nearest_102 x1 x2 x3 x4 x5 x6 t0 V) := by
  unfold f_X9_nearest_102 t_X9_nearest_102
  refine te_if ?_ ?_
  · exact (e_X9_nearest_129 h)
  · refine te_if ?_ ?_
    · exact (e_X9_nearest_123 h)
    · refine te_if ?_ ?_
      · exact (e_X9_nearest_129 h)
      · exact (e_X9_nearest_123 h)
noncomputable def t_X9_nearest_40_b (x1 x2 x3 x4 x5 x6 : Int) (V : zW) : Option ((Int × Int × zW) ⊕ ((Int × Int × zW) ⊕ (Int × zW))) :=
  zlet (V.1 964) fun v1 =>
  if (zshl 1 v1) ≤ x6 then
    (t_X9_nearest_135 x1 x2 x3 x4 x5 V).map (fun r => (.inr r))
  else
    tci (t_X9_truthAt x1 x6 V) fun v2 V3 =>
    if v2 = x2 then
      (tga V3 949 x5).bind fun v5 =>
      (tga V3 949 x5).bind fun v7 =>
      tci (t_X9_settled v7 x6 V3) fun v8 V9 =>
      tci (t_X9_away (zadd (zadd (zmul 64 v5) (zmul 8 x6)) (zor x3 v8)) V9) fun v10 V11 =>
      t_X9_nearest_102 x1 x2 x3 x4 x5 x6 v10 V11
    else
      t_X9_nearest_102 x1 x2 x3 x4 x5 x6 (-1) V3
theorem e_X9_nearest_40_b {σ : zM} {m : Nat} (h : tOK m σ) {x1 x2 x3 x4 x5 x6 : Int} {V : zW} : tR (Sum.map (fun s => (s.1, s.2.1, tw σ m s.2.2)) (Sum.map (fun s => (s.1, s.2.1, tw σ m s.2.2)) (tfi σ m))) (f_X9_nearest_40_b (m : Int) x1 x2 x3 x4 x5 x6 (tw σ m V)) (t_X9_nearest_40_b x1 x2 x3 x4 x5 x6 V) := by
  unfold f_X9_nearest_40_b t_X9_nearest_40_b
  refine te_gs h rfl (fun v1 => ?_)
  refine te_if ?_ ?_
  · exact te_map (e_X9_nearest_135 h) (fun r => rfl)
  · refine te_is h ?_
    refine te_ci (e_X9_truthAt h) (fun v2 V3 => ?_)
    refine te_if ?_ ?_
    · refine te_gr h (f := 949) rfl ?_
      refine te_ga h rfl (fun v5 => ?_)
      refine te_gr h (f := 949) rfl ?_
      refine te_ga h rfl (fun v7 => ?_)
      refine te_is h ?_
      refine te_ci (e_X9_settled h) (fun v8 V9 => ?_)
      refine te_is h ?_
      refine te_ci (e_X9_away h) (fun v10 V11 => ?_)
      exact (e_X9_nearest_102 h)
    · exact (e_X9_nearest_102 h)
noncomputable def t_X9_nearest_40 (x1 x2 x3 x4 x5 x6 : Int) (V : zW) : Option ((Int × Int × zW) ⊕ (Int × zW)) :=
  zloop (fun s : Int × Int × zW => t_X9_nearest_40_b x1 x2 x3 s.1 x5 s.2.1 s.2.2) (x4, x6, V)
theorem e_X9_nearest_40 {σ : zM} {m : Nat} (h : tOK m σ) {x1 x2 x3 x4 x5 x6 : Int} {V : zW} : tR (Sum.map (fun s => (s.1, s.2.1, tw σ m s.2.2)) (tfi σ m)) (f_X9_nearest_40 (m : Int) x1 x2 x3 x4 x5 x6 (tw σ m V)) (t_X9_nearest_40 x1 x2 x3 x4 x5 x6 V) := by
  unfold f_X9_nearest_40 t_X9_nearest_40
  refine te_loop (φ := (fun s => (s.1, s.2.1, tw σ m s.2.2))) (s := (x4, x6, V)) (fun s => ?_)
  exact e_X9_nearest_40_b h
noncomputable def t_X9_nearest_24_b (x1 x2 x3 x4 x5 : Int) (V : zW) : Option ((Int × Int × zW) ⊕ (Int × zW)) :=
  (tga V 948 (zadd x1 1)).bind fun v2 =>
  if v2 ≤ x5 then
    (t_X9_nearest_141 x4 V).map (fun r => (.inr r))
  else
    t_X9_nearest_40 x1 x2 x3 x4 x5 0 V
theorem e_X9_nearest_24_b {σ : zM} {m : Nat} (h : tOK m σ) {x1 x2 x3 x4 x5 : Int} {V : zW} : tR (Sum.map (fun s => (s.1, s.2.1, tw σ m s.2.2)) (tfi σ m)) (f_X9_nearest_24_b (m : Int) x1 x2 x3 x4 x5 (tw σ m V)) (t_X9_nearest_24_b x1 x2 x3 x4 x5 V) := by
  unfold f_X9_nearest_24_b t_X9_nearest_24_b
  refine te_gr h (f := 948) rfl ?_
  refine te_ga h rfl (fun v2 => ?_)
  refine te_if ?_ ?_
  · exact te_map (e_X9_nearest_141 h) (fun r => rfl)
  · exact (e_X9_nearest_40 h)
noncomputable def t_X9_nearest_24 (x1 x2 x3 x4 x5 : Int) (V : zW) : Option (Int × zW) :=
  zloop (fun s : Int × Int × zW => t_X9_nearest_24_b x1 x2 x3 s.1 s.2.1 s.2.2) (x4, x5, V)
theorem e_X9_nearest_24 {σ : zM} {m : Nat} (h : tOK m σ) {x1 x2 x3 x4 x5 : Int} {V : zW} : tR (tfi σ m) (f_X9_nearest_24 (m : Int) x1 x2 x3 x4 x5 (tw σ m V)) (t_X9_nearest_24 x1 x2 x3 x4 x5 V) := by
  unfold f_X9_nearest_24 t_X9_nearest_24
  refine te_loop (φ := (fun s => (s.1, s.2.1, tw σ m s.2.2))) (s := (x4, x5, V)) (fun s => ?_)
  exact e_X9_nearest_24_b h
noncomputable def t_X9_nearest (x1 x2 : Int) (V : zW) : Option (Int × zW) :=
  tcv (t_X9_measure x1 x2 V) fun V1 =>
  tci (t_X9_settled x1 x2 V1) fun v2 V3 =>
  (tga V3 948 x1).bind fun v5 =>
  t_X9_nearest_24 x1 x2 v2 0 v5 V3
theorem e_X9_nearest {σ : zM} {m : Nat} (h : tOK m σ) {x1 x2 : Int} {V : zW} : tR (tfi σ m) (f_X9_nearest (m : Int) x1 x2 (tw σ m V)) (t_X9_nearest x1 x2 V) := by
  unfold f_X9_nearest t_X9_nearest
  refine te_is h ?_
  refine te_cv (e_X9_measure h) (fun V1 => ?_)
  refine te_is h ?_
  refine te_ci (e_X9_settled h) (fun v2 V3 => ?_)
  refine te_gr h (f := 948) rfl ?_
  refine te_ga h rfl (fun v5 => ?_)
  exact (e_X9_nearest_24 h)
noncomputable def t_X9_spread_141 (x2 : Int) (V : zW) : Option (Int × zW) :=
  zgd (z01 x2) <|
  some (x2, V)
theorem e_X9_spread_141 {σ : zM} {m : Nat} (h : tOK m σ) {x2 : Int} {V : zW} : tR (tfi σ m) (f_X9_spread_141 x2 (tw σ m V)) (t_X9_spread_141 x2 V) := by
  unfold f_X9_spread_141 t_X9_spread_141
  refine te_gd ?_
  exact te_some rfl
noncomputable def t_X9_spread_135 (x1 x2 x3 : Int) (V : zW) : Option ((Int × Int × zW) ⊕ (Int × zW)) :=
  zlet (zadd x3 1) fun y1 =>
  some (.inl (x2, y1, V))
theorem e_X9_spread_135 {σ : zM} {m : Nat} (h : tOK m σ) {x1 x2 x3 : Int} {V : zW} : tR (Sum.map (fun s => (s.1, s.2.1, tw σ m s.2.2)) (tfi σ m)) (f_X9_spread_135 (m : Int) x1 x2 x3 (tw σ m V)) (t_X9_spread_135 x1 x2 x3 V) := by
  unfold f_X9_spread_135 t_X9_spread_135
  refine te_let (fun y1 => ?_)
  exact te_some rfl
noncomputable def t_X9_spread_129 (x1 x2 x3 x4 : Int) (V : zW) : Option ((Int × Int × zW) ⊕ ((Int × Int × zW) ⊕ (Int × zW))) :=
  zlet (zadd x4 1) fun y1 =>
  some (.inl (x2, y1, V))
theorem e_X9_spread_129 {σ : zM} {m : Nat} (h : tOK m σ) {x1 x2 x3 x4 : Int} {V : zW} : tR (Sum.map (fun s => (s.1, s.2.1, tw σ m s.2.2)) (Sum.map (fun s => (s.1, s.2.1, tw σ m s.2.2)) (tfi σ m))) (f_X9_spread_129 (m : Int) x1 x2 x3 x4 (tw σ m V)) (t_X9_spread_129 x1 x2 x3 x4 V) := by
  unfold f_X9_spread_129 t_X9_spread_129
  refine te_let (fun y1 => ?_)
  exact te_some rfl
noncomputable def t_X9_spread_123 (x1 x2 x3 x4 x5 : Int) (V : zW) : Option ((Int × Int × zW) ⊕ ((Int × Int × zW) ⊕ ((Int × Int × zW) ⊕ (Int × zW)))) :=
  zlet (zadd x5 1) fun y1 =>
  some (.inl (x2, y1, V))
theorem e_X9_spread_123 {σ : zM} {m : Nat} (h : tOK m σ) {x1 x2 x3 x4 x5 : Int} {V : zW} : tR (Sum.map (fun s => (s.1, s.2.1, tw σ m s.2.2)) (Sum.map (fun s => (s.1, s.2.1, tw σ m s.2.2)) (Sum.map (fun s => (s.1, s.2.1, tw σ m s.2.2)) (tfi σ m)))) (f_X9_spread_123 (m : Int) x1 x2 x3 x4 x5 (tw σ m V)) (t_X9_spread_123 x1 x2 x3 x4 x5 V) := by
  unfold f_X9_spread_123 t_X9_spread_123
  refine te_let (fun y1 => ?_)
  exact te_some rfl
noncomputable def t_X9_spread_56_b (x1 x2 x3 x4 x5 : Int) (V : zW) : Option ((Int × Int × zW) ⊕ ((Int × Int × zW) ⊕ ((Int × Int × zW) ⊕ (Int × zW)))) :=
  zlet (V.1 964) fun v1 =>
  if (zshl 1 v1) ≤ x5 then
    (t_X9_spread_129 x1 x2 x3 x4 V).map (fun r => (.inr r))
  else
    (tga V 949 x4).bind fun v3 =>
    zlet ((zadd (zmul 8 v3) x5)) fun y4 =>
    (tga V 975 y4).bind fun v6 =>
    if 0 ≤ v6 then
      t_X9_spread_123 x1 x2 x3 x4 x5 V
    else
      tci (t_X9_truthAt (zshr x3 3) x5 V) fun v7 V8 =>
      if v7 = (zand x3 7) then
        (tpa V8 975 y4 (zadd x1 1)).bind fun V10 =>
        t_X9_spread_123 x1 1 x3 x4 x5 V10
      else
        t_X9_spread_123 x1 x2 x3 x4 x5 V8
theorem e_X9_spread_56_b {σ : zM} {m : Nat} (h : tOK m σ) {x1 x2 x3 x4 x5 : Int} {V : zW} : tR (Sum.map (fun s => (s.1, s.2.1, tw σ m s.2.2)) (Sum.map (fun s => (s.1, s.2.1, tw σ m s.2.2)) (Sum.map (fun s => (s.1, s.2.1, tw σ m s.2.2)) (tfi σ m)))) (f_X9_spread_56_b (m : Int) x1 x2 x3 x4 x5 (tw σ m V)) (t_X9_spread_56_b x1 x2 x3 x4 x5 V) := by
  unfold f_X9_spread_56_b t_X9_spread_56_b
  refine te_gs h rfl (fun v1 => ?_)
  refine te_if ?_ ?_
  · exact te_map (e_X9_spread_129 h) (fun r => rfl)
  · refine te_gr h (f := 949) rfl ?_
    refine te_ga h rfl (fun v3 => ?_)
    refine te_let (fun y4 => ?_)
    refine te_gr h (f := 975) rfl ?_
    refine te_ga h rfl (fun v6 => ?_)
    refine te_if ?_ ?_
    · exact (e_X9_spread_123 h)
    · refine te_is h ?_
      refine te_ci (e_X9_truthAt h) (fun v7 V8 => ?_)
      refine te_if ?_ ?_
      · refine te_gr h (f := 975) rfl ?_
        refine te_pa h rfl (fun V10 => ?_)
        exact (e_X9_spread_123 h)
      · exact (e_X9_spread_123 h)
noncomputable def t_X9_spread_56 (x1 x2 x3 x4 x5 : Int) (V : zW) : Option ((Int × Int × zW) ⊕ ((Int × Int × zW) ⊕ (Int × zW))) :=
  zloop (fun s : Int × Int × zW => t_X9_spread_56_b x1 s.1 x3 x4 s.2.1 s.2.2) (x2, x5, V)
theorem e_X9_spread_56 {σ : zM} {m : Nat} (h : tOK m σ) {x1 x2 x3 x4 x5 : Int} {V : zW} : tR (Sum.map (fun s => (s.1, s.2.1, tw σ m s.2.2)) (Sum.map (fun s => (s.1, s.2.1, tw σ m s.2.2)) (tfi σ m))) (f_X9_spread_56 (m : Int) x1 x2 x3 x4 x5 (tw σ m V)) (t_X9_spread_56 x1 x2 x3 x4 x5 V) := by
  unfold f_X9_spread_56 t_X9_spread_56
  refine te_loop (φ := (fun s => (s.1, s.2.1, tw σ m s.2.2))) (s := (x2, x5, V)) (fun s => ?_)
  exact e_X9_spread_56_b h
noncomputable def t_X9_spread_38_b (x1 x2 x3 x4 : Int) (V : zW) : Option ((Int × Int × zW) ⊕ ((Int × Int × zW) ⊕ (Int × zW))) :=
  (tga V 948 (zadd (zshr x3 3) 1)).bind fun v2 =>
  if v2 ≤ x4 then
    (t_X9_spread_135 x1 x2 x3 V).map (fun r => (.inr r))
  else
    t_X9_spread_56 x1 x2 x3 x4 0 V
theorem e_X9_spread_38_b {σ : zM} {m : Nat} (h : tOK m σ) {x1 x2 x3 x4 : Int} {V : zW} : tR (Sum.map (fun s => (s.1, s.2.1, tw σ m s.2.2)) (Sum.map (fun s => (s.1, s.2.1, tw σ m s.2.2)) (tfi σ m))) (f_X9_spread_38_b (m : Int) x1 x2 x3 x4 (tw σ m V)) (t_X9_spread_38_b x1 x2 x3 x4 V) := by
  unfold f_X9_spread_38_b t_X9_spread_38_b
  refine te_gr h (f := 948) rfl ?_
  refine te_ga h rfl (fun v2 => ?_)
  refine te_if ?_ ?_
  · exact te_map (e_X9_spread_135 h) (fun r => rfl)
  · exact (e_X9_spread_56 h)
noncomputable def t_X9_spread_38 (x1 x2 x3 x4 : Int) (V : zW) : Option ((Int × Int × zW) ⊕ (Int × zW)) :=
  zloop (fun s : Int × Int × zW => t_X9_spread_38_b x1 s.1 x3 s.2.1 s.2.2) (x2, x4, V)
theorem e_X9_spread_38 {σ : zM} {m : Nat} (h : tOK m σ) {x1 x2 x3 x4 : Int} {V : zW} : tR (Sum.map (fun s => (s.1, s.2.1, tw σ m s.2.2)) (tfi σ m)) (f_X9_spread_38 (m : Int) x1 x2 x3 x4 (tw σ m V)) (t_X9_spread_38 x1 x2 x3 x4 V) := by
  unfold f_X9_spread_38 t_X9_spread_38
  refine te_loop (φ := (fun s => (s.1, s.2.1, tw σ m s.2.2))) (s := (x2, x4, V)) (fun s => ?_)
  exact e_X9_spread_38_b h
noncomputable def t_X9_spread_4_b (x1 x2 x3 : Int) (V : zW) : Option ((Int × Int × zW) ⊕ (Int × zW)) :=
  zlet (V.1 944) fun v1 =>
  if (zmul 8 v1) ≤ x3 then
    (t_X9_spread_141 x2 V).map (fun r => (.inr r))
  else
    (tga V 975 x3).bind fun v3 =>
    if v3 = x1 then
      (tga V 948 (zshr x3 3)).bind fun v5 =>
      t_X9_spread_38 x1 x2 x3 v5 V
    else
      t_X9_spread_135 x1 x2 x3 V
theorem e_X9_spread_4_b {σ : zM} {m : Nat} (h : tOK m σ) {x1 x2 x3 : Int} {V : zW} : tR (Sum.map (fun s => (s.1, s.2.1, tw σ m s.2.2)) (tfi σ m)) (f_X9_spread_4_b (m : Int) x1 x2 x3 (tw σ m V)) (t_X9_spread_4_b x1 x2 x3 V) := by
  unfold f_X9_spread_4_b t_X9_spread_4_b
  refine te_gs h rfl (fun v1 => ?_)
  refine te_if ?_ ?_
  · exact te_map (e_X9_spread_141 h) (fun r => rfl)
  · refine te_gr h (f := 975) rfl ?_
    refine te_ga h rfl (fun v3 => ?_)
    refine te_if ?_ ?_
    · refine te_gr h (f := 948) rfl ?_
      refine te_ga h rfl (fun v5 => ?_)
      exact (e_X9_spread_38 h)
    · exact (e_X9_spread_135 h)
noncomputable def t_X9_spread_4 (x1 x2 x3 : Int) (V : zW) : Option (Int × zW) :=
  zloop (fun s : Int × Int × zW => t_X9_spread_4_b x1 s.1 s.2.1 s.2.2) (x2, x3, V)
theorem e_X9_spread_4 {σ : zM} {m : Nat} (h : tOK m σ) {x1 x2 x3 : Int} {V : zW} : tR (tfi σ m) (f_X9_spread_4 (m : Int) x1 x2 x3 (tw σ m V)) (t_X9_spread_4 x1 x2 x3 V) := by
  unfold f_X9_spread_4 t_X9_spread_4
  refine te_loop (φ := (fun s => (s.1, s.2.1, tw σ m s.2.2))) (s := (x2, x3, V)) (fun s => ?_)
  exact e_X9_spread_4_b h
noncomputable def t_X9_spread (x1 : Int) (V : zW) : Option (Int × zW) :=
  t_X9_spread_4 x1 0 0 V
theorem e_X9_spread {σ : zM} {m : Nat} (h : tOK m σ) {x1 : Int} {V : zW} : tR (tfi σ m) (f_X9_spread (m : Int) x1 (tw σ m V)) (t_X9_spread x1 V) := by
  unfold f_X9_spread t_X9_spread
  exact (e_X9_spread_4 h)
noncomputable def t_X9_shortest_366 (x1 : Int) (V : zW) : Option (Int × zW) :=
  some (x1, V)
theorem e_X9_shortest_366 {σ : zM} {m : Nat} (h : tOK m σ) {x1 : Int} {V : zW} : tR (tfi σ m) (f_X9_shortest_366 x1 (tw σ m V)) (t_X9_shortest_366 x1 V) := by
  unfold f_X9_shortest_366 t_X9_shortest_366
  exact te_some rfl
noncomputable def t_X9_shortest_360 (x1 x3 : Int) (V : zW) : Option ((Int × zW) ⊕ (Int × zW)) :=
  zlet (zadd x3 (-1)) fun y1 =>
  some (.inl (y1, V))
theorem e_X9_shortest_360 {σ : zM} {m : Nat} (h : tOK m σ) {x1 x3 : Int} {V : zW} : tR (Sum.map (fun s => (s.1, tw σ m s.2)) (tfi σ m)) (f_X9_shortest_360 (m : Int) x1 x3 (tw σ m V)) (t_X9_shortest_360 x1 x3 V) := by
  unfold f_X9_shortest_360 t_X9_shortest_360
  refine te_let (fun y1 => ?_)
  exact te_some rfl
noncomputable def t_X9_shortest_354 (x1 x3 x4 : Int) (V : zW) : Option ((Int × zW) ⊕ ((Int × zW) ⊕ (Int × zW))) :=
  zlet (zadd x4 1) fun y1 =>
  some (.inl (y1, V))
theorem e_X9_shortest_354 {σ : zM} {m : Nat} (h : tOK m σ) {x1 x3 x4 : Int} {V : zW} : tR (Sum.map (fun s => (s.1, tw σ m s.2)) (Sum.map (fun s => (s.1, tw σ m s.2)) (tfi σ m))) (f_X9_shortest_354 (m : Int) x1 x3 x4 (tw σ m V)) (t_X9_shortest_354 x1 x3 x4 V) := by
  unfold f_X9_shortest_354 t_X9_shortest_354
  refine te_let (fun y1 => ?_)
  exact te_some rfl
noncomputable def t_X9_shortest_348 (x1 x3 x4 x5 : Int) (V : zW) : Option ((Int × zW) ⊕ ((Int × zW) ⊕ ((Int × zW) ⊕ (Int × zW)))) :=
  zlet (zadd x5 1) fun y1 =>
  some (.inl (y1, V))
theorem e_X9_shortest_348 {σ : zM} {m : Nat} (h : tOK m σ) {x1 x3 x4 x5 : Int} {V : zW} : tR (Sum.map (fun s => (s.1, tw σ m s.2)) (Sum.map (fun s => (s.1, tw σ m s.2)) (Sum.map (fun s => (s.1, tw σ m s.2)) (tfi σ m)))) (f_X9_shortest_348 (m : Int) x1 x3 x4 x5 (tw σ m V)) (t_X9_shortest_348 x1 x3 x4 x5 V) := by
  unfold f_X9_shortest_348 t_X9_shortest_348
  refine te_let (fun y1 => ?_)
  exact te_some rfl
noncomputable def t_X9_shortest_341 (x1 x3 x4 x5 x6 t0 t1 : Int) (V : zW) : Option ((Int × zW) ⊕ ((Int × zW) ⊕ ((Int × zW) ⊕ ((Int × zW) ⊕ (Int × zW))))) :=
  zgd (z01 t0) <|
  (tpa V 976 t1 t0).bind fun V1 =>
  zlet (zadd x6 1) fun y2 =>
  some (.inl (y2, V1))
theorem e_X9_shortest_341 {σ : zM} {m : Nat} (h : tOK m σ) {x1 x3 x4 x5 x6 t0 t1 : Int} {V : zW} : tR (Sum.map (fun s => (s.1, tw σ m s.2)) (Sum.map (fun s => (s.1, tw σ m s.2)) (Sum.map (fun s => (s.1, tw σ m s.2)) (Sum.map (fun s => (s.1, tw σ m s.2)) (tfi σ m))))) (f_X9_shortest_341 (m : Int) x1 x3 x4 x5 x6 t0 t1 (tad m 976) (tw σ m V)) (t_X9_shortest_341 x1 x3 x4 x5 x6 t0 t1 V) := by
  unfold f_X9_shortest_341 t_X9_shortest_341
  refine te_gd ?_
  refine te_pa h rfl (fun V1 => ?_)
  refine te_let (fun y2 => ?_)
  exact te_some rfl
noncomputable def t_X9_shortest_336 (x1 x3 x4 x5 x6 t0 : Int) (V : zW) : Option ((Int × zW) ⊕ ((Int × zW) ⊕ ((Int × zW) ⊕ ((Int × zW) ⊕ (Int × zW))))) :=
  t_X9_shortest_341 x1 x3 x4 x5 x6 1 t0 V
theorem e_X9_shortest_336 {σ : zM} {m : Nat} (h : tOK m σ) {x1 x3 x4 x5 x6 t0 : Int} {V : zW} : tR (Sum.map (fun s => (s.1, tw σ m s.2)) (Sum.map (fun s => (s.1, tw σ m s.2)) (Sum.map (fun s => (s.1, tw σ m s.2)) (Sum.map (fun s => (s.1, tw σ m s.2)) (tfi σ m))))) (f_X9_shortest_336 (m : Int) x1 x3 x4 x5 x6 t0 (tad m 976) (tw σ m V)) (t_X9_shortest_336 x1 x3 x4 x5 x6 t0 V) := by
  unfold f_X9_shortest_336 t_X9_shortest_336
  exact (e_X9_shortest_341 h)
noncomputable def t_X9_shortest_340 (x1 x3 x4 x5 x6 t0 : Int) (V : zW) : Option ((Int × zW) ⊕ ((Int × zW) ⊕ ((Int × zW) ⊕ ((Int × zW) ⊕ (Int × zW))))) :=
  t_X9_shortest_341 x1 x3 x4 x5 x6 0 t0 V
theorem e_X9_shortest_340 {σ : zM} {m : Nat} (h : tOK m σ) {x1 x3 x4 x5 x6 t0 : Int} {V : zW} : tR (Sum.map (fun s => (s.1, tw σ m s.2)) (Sum.map (fun s => (s.1, tw σ m s.2)) (Sum.map (fun s => (s.1, tw σ m s.2)) (Sum.map (fun s => (s.1, tw σ m s.2)) (tfi σ m))))) (f_X9_shortest_340 (m : Int) x1 x3 x4 x5 x6 t0 (tad m 976) (tw σ m V)) (t_X9_shortest_340 x1 x3 x4 x5 x6 t0 V) := by
  unfold f_X9_shortest_340 t_X9_shortest_340
  exact (e_X9_shortest_341 h)
noncomputable def t_X9_shortest_253_b (x1 x3 x4 x5 x6 : Int) (V : zW) : Option ((Int × zW) ⊕ ((Int × zW) ⊕ ((Int × zW) ⊕ ((Int × zW) ⊕ (Int × zW))))) :=
  zlet (V.1 964) fun v1 =>
  if (zshl 1 v1) ≤ x6 then
    (t_X9_shortest_348 x1 x3 x4 x5 V).map (fun r => (.inr r))
  else
    (tga V 949 x5).bind fun v3 =>
    zlet ((zadd (zmul 8 v3) x6)) fun y4 =>
    (tga V 976 x4).bind fun v7 =>
    if v7 ≠ 0 then
      t_X9_shortest_336 x1 x3 x4 x5 x6 x4 V
    else
      (tga V 975 y4).bind fun v9 =>
      if v9 ≠ (zadd x3 1) then
        t_X9_shortest_340 x1 x3 x4 x5 x6 x4 V
      else
        (tga V 976 y4).bind fun v11 =>
        if v11 = 0 then
          t_X9_shortest_340 x1 x3 x4 x5 x6 x4 V
        else
          tci (t_X9_truthAt (zshr x4 3) x6 V) fun v12 V13 =>
          if v12 ≠ (zand x4 7) then
            t_X9_shortest_340 x1 x3 x4 x5 x6 x4 V13
          else
            t_X9_shortest_336 x1 x3 x4 x5 x6 x4 V13
theorem e_X9_shortest_253_b {σ : zM} {m : Nat} (h : tOK m σ) {x1 x3 x4 x5 x6 : Int} {V : zW} : tR (Sum.map (fun s => (s.1, tw σ m s.2)) (Sum.map (fun s => (s.1, tw σ m s.2)) (Sum.map (fun s => (s.1, tw σ m s.2)) (Sum.map (fun s => (s.1, tw σ m s.2)) (tfi σ m))))) (f_X9_shortest_253_b (m : Int) x1 x3 x4 x5 x6 (tw σ m V)) (t_X9_shortest_253_b x1 x3 x4 x5 x6 V) := by
  unfold f_X9_shortest_253_b t_X9_shortest_253_b
  refine te_gs h rfl (fun v1 => ?_)
  refine te_if ?_ ?_
  · exact te_map (e_X9_shortest_348 h) (fun r => rfl)
  · refine te_gr h (f := 949) rfl ?_
    refine te_ga h rfl (fun v3 => ?_)
    refine te_let (fun y4 => ?_)
    refine te_gr h (f := 976) rfl ?_
    refine te_gr h (f := 976) rfl ?_
    refine te_ga h rfl (fun v7 => ?_)
    refine te_if ?_ ?_
    · exact (e_X9_shortest_336 h)
    · refine te_gr h (f := 975) rfl ?_
      refine te_ga h rfl (fun v9 => ?_)
      refine te_if ?_ ?_
      · exact (e_X9_shortest_340 h)
      · refine te_gr h (f := 976) rfl ?_
        refine te_ga h rfl (fun v11 => ?_)
        refine te_if ?_ ?_
        · exact (e_X9_shortest_340 h)
        · refine te_is h ?_
          refine te_ci (e_X9_truthAt h) (fun v12 V13 => ?_)
          refine te_if ?_ ?_
          · exact (e_X9_shortest_340 h)
          · exact (e_X9_shortest_336 h)
noncomputable def t_X9_shortest_253 (x1 x3 x4 x5 x6 : Int) (V : zW) : Option ((Int × zW) ⊕ ((Int × zW) ⊕ ((Int × zW) ⊕ (Int × zW)))) :=
  zloop (fun s : Int × zW => t_X9_shortest_253_b x1 x3 x4 x5 s.1 s.2) (x6, V)
theorem e_X9_shortest_253 {σ : zM} {m : Nat} (h : tOK m σ) {x1 x3 x4 x5 x6 : Int} {V : zW} : tR (Sum.map (fun s => (s.1, tw σ m s.2)) (Sum.map (fun s => (s.1, tw σ m s.2)) (Sum.map (fun s => (s.1, tw σ m s.2)) (tfi σ m)))) (f_X9_shortest_253 (m : Int) x1 x3 x4 x5 x6 (tw σ m V)) (t_X9_shortest_253 x1 x3 x4 x5 x6 V) := by
  unfold f_X9_shortest_253 t_X9_shortest_253
  refine te_loop (φ := (fun s => (s.1, tw σ m s.2))) (s := (x6, V)) (fun s => ?_)
  exact e_X9_shortest_253_b h
noncomputable def t_X9_shortest_223_b (x1 x3 x4 x5 : Int) (V : zW) : Option ((Int × zW) ⊕ ((Int × zW) ⊕ ((Int × zW) ⊕ (Int × zW)))) :=
  (tga V 948 (zadd (zshr x4 3) 1)).bind fun v2 =>
  if v2 ≤ x5 then
    (t_X9_shortest_354 x1 x3 x4 V).map (fun r => (.inr r))
  else
    (tga V 975 x4).bind fun v4 =>
    if v4 ≠ x3 then
      (t_X9_shortest_354 x1 x3 x4 V).map (fun r => (.inr r))
    else
      t_X9_shortest_253 x1 x3 x4 x5 0 V
theorem e_X9_shortest_223_b {σ : zM} {m : Nat} (h : tOK m σ) {x1 x3 x4 x5 : Int} {V : zW} : tR (Sum.map (fun s => (s.1, tw σ m s.2)) (Sum.map (fun s => (s.1, tw σ m s.2)) (Sum.map (fun s => (s.1, tw σ m s.2)) (tfi σ m)))) (f_X9_shortest_223_b (m : Int) x1 x3 x4 x5 (tw σ m V)) (t_X9_shortest_223_b x1 x3 x4 x5 V) := by
  unfold f_X9_shortest_223_b t_X9_shortest_223_b
  refine te_gr h (f := 948) rfl ?_
  refine te_ga h rfl (fun v2 => ?_)
  refine te_if ?_ ?_
  · exact te_map (e_X9_shortest_354 h) (fun r => rfl)
  · refine te_gr h (f := 975) rfl ?_
    refine te_ga h rfl (fun v4 => ?_)
    refine te_if ?_ ?_
    · exact te_map (e_X9_shortest_354 h) (fun r => rfl)
    · exact (e_X9_shortest_253 h)
noncomputable def t_X9_shortest_223 (x1 x3 x4 x5 : Int) (V : zW) : Option ((Int × zW) ⊕ ((Int × zW) ⊕ (Int × zW))) :=
  zloop (fun s : Int × zW => t_X9_shortest_223_b x1 x3 x4 s.1 s.2) (x5, V)
theorem e_X9_shortest_223 {σ : zM} {m : Nat} (h : tOK m σ) {x1 x3 x4 x5 : Int} {V : zW} : tR (Sum.map (fun s => (s.1, tw σ m s.2)) (Sum.map (fun s => (s.1, tw σ m s.2)) (tfi σ m))) (f_X9_shortest_223 (m : Int) x1 x3 x4 x5 (tw σ m V)) (t_X9_shortest_223 x1 x3 x4 x5 V) := by
  unfold f_X9_shortest_223 t_X9_shortest_223
  refine te_loop (φ := (fun s => (s.1, tw σ m s.2))) (s := (x5, V)) (fun s => ?_)
  exact e_X9_shortest_223_b h
noncomputable def t_X9_shortest_200_b (x1 x3 x4 : Int) (V : zW) : Option ((Int × zW) ⊕ ((Int × zW) ⊕ (Int × zW))) :=
  zlet (V.1 944) fun v1 =>
  if (zmul 8 v1) ≤ x4 then
    (t_X9_shortest_360 x1 x3 V).map (fun r => (.inr r))
  else
    (tga V 948 (zshr x4 3)).bind fun v3 =>
    t_X9_shortest_223 x1 x3 x4 v3 V
theorem e_X9_shortest_200_b {σ : zM} {m : Nat} (h : tOK m σ) {x1 x3 x4 : Int} {V : zW} : tR (Sum.map (fun s => (s.1, tw σ m s.2)) (Sum.map (fun s => (s.1, tw σ m s.2)) (tfi σ m))) (f_X9_shortest_200_b (m : Int) x1 x3 x4 (tw σ m V)) (t_X9_shortest_200_b x1 x3 x4 V) := by
  unfold f_X9_shortest_200_b t_X9_shortest_200_b
  refine te_gs h rfl (fun v1 => ?_)
  refine te_if ?_ ?_
  · exact te_map (e_X9_shortest_360 h) (fun r => rfl)
  · refine te_gr h (f := 948) rfl ?_
    refine te_ga h rfl (fun v3 => ?_)
    exact (e_X9_shortest_223 h)
noncomputable def t_X9_shortest_200 (x1 x3 x4 : Int) (V : zW) : Option ((Int × zW) ⊕ (Int × zW)) :=
  zloop (fun s : Int × zW => t_X9_shortest_200_b x1 x3 s.1 s.2) (x4, V)
theorem e_X9_shortest_200 {σ : zM} {m : Nat} (h : tOK m σ) {x1 x3 x4 : Int} {V : zW} : tR (Sum.map (fun s => (s.1, tw σ m s.2)) (tfi σ m)) (f_X9_shortest_200 (m : Int) x1 x3 x4 (tw σ m V)) (t_X9_shortest_200 x1 x3 x4 V) := by
  unfold f_X9_shortest_200 t_X9_shortest_200
  refine te_loop (φ := (fun s => (s.1, tw σ m s.2))) (s := (x4, V)) (fun s => ?_)
  exact e_X9_shortest_200_b h
noncomputable def t_X9_shortest_193_b (x1 x3 : Int) (V : zW) : Option ((Int × zW) ⊕ (Int × zW)) :=
  if x3 < 0 then
    (t_X9_shortest_366 x1 V).map (fun r => (.inr r))
  else
    t_X9_shortest_200 x1 x3 0 V
theorem e_X9_shortest_193_b {σ : zM} {m : Nat} (h : tOK m σ) {x1 x3 : Int} {V : zW} : tR (Sum.map (fun s => (s.1, tw σ m s.2)) (tfi σ m)) (f_X9_shortest_193_b (m : Int) x1 x3 (tw σ m V)) (t_X9_shortest_193_b x1 x3 V) := by
  unfold f_X9_shortest_193_b t_X9_shortest_193_b
  refine te_if ?_ ?_
  · exact te_map (e_X9_shortest_366 h) (fun r => rfl)
  · exact (e_X9_shortest_200 h)
noncomputable def t_X9_shortest_193 (x1 x3 : Int) (V : zW) : Option (Int × zW) :=
  zloop (fun s : Int × zW => t_X9_shortest_193_b x1 s.1 s.2) (x3, V)
theorem e_X9_shortest_193 {σ : zM} {m : Nat} (h : tOK m σ) {x1 x3 : Int} {V : zW} : tR (tfi σ m) (f_X9_shortest_193 (m : Int) x1 x3 (tw σ m V)) (t_X9_shortest_193 x1 x3 V) := by
  unfold f_X9_shortest_193 t_X9_shortest_193
  refine te_loop (φ := (fun s => (s.1, tw σ m s.2))) (s := (x3, V)) (fun s => ?_)
  exact e_X9_shortest_193_b h
noncomputable def t_X9_shortest_189 (x1 : Int) (V : zW) : Option (Int × zW) :=
  zlet ((zsub x1 1)) fun y1 =>
  t_X9_shortest_193 x1 y1 V
theorem e_X9_shortest_189 {σ : zM} {m : Nat} (h : tOK m σ) {x1 : Int} {V : zW} : tR (tfi σ m) (f_X9_shortest_189 (m : Int) x1 (tw σ m V)) (t_X9_shortest_189 x1 V) := by
  unfold f_X9_shortest_189 t_X9_shortest_189
  refine te_let (fun y1 => ?_)
  exact (e_X9_shortest_193 h)
noncomputable def t_X9_shortest_181 (x2 x3 t0 t1 : Int) (V : zW) : Option ((Int × Int × Int × zW) ⊕ (Int × zW)) :=
  zlet ((zadd t1 t0)) fun y1 =>
  zlet (zadd x3 1) fun y2 =>
  some (.inl (y1, x2, y2, V))
theorem e_X9_shortest_181 {σ : zM} {m : Nat} (h : tOK m σ) {x2 x3 t0 t1 : Int} {V : zW} : tR (Sum.map (fun s => (s.1, s.2.1, s.2.2.1, tw σ m s.2.2.2)) (tfi σ m)) (f_X9_shortest_181 (m : Int) x2 x3 t0 t1 (tw σ m V)) (t_X9_shortest_181 x2 x3 t0 t1 V) := by
  unfold f_X9_shortest_181 t_X9_shortest_181
  refine te_let (fun y1 => ?_)
  refine te_let (fun y2 => ?_)
  exact te_some rfl
noncomputable def t_X9_shortest_171 (x1 x2 x3 : Int) (V : zW) : Option ((Int × Int × Int × zW) ⊕ (Int × zW)) :=
  if x2 = 0 then
    t_X9_shortest_181 x2 x3 1 x1 V
  else
    t_X9_shortest_181 x2 x3 0 x1 V
theorem e_X9_shortest_171 {σ : zM} {m : Nat} (h : tOK m σ) {x1 x2 x3 : Int} {V : zW} : tR (Sum.map (fun s => (s.1, s.2.1, s.2.2.1, tw σ m s.2.2.2)) (tfi σ m)) (f_X9_shortest_171 (m : Int) x1 x2 x3 (tw σ m V)) (t_X9_shortest_171 x1 x2 x3 V) := by
  unfold f_X9_shortest_171 t_X9_shortest_171
  refine te_if ?_ ?_
  · exact (e_X9_shortest_181 h)
  · exact (e_X9_shortest_181 h)
noncomputable def t_X9_shortest_169 (V : zW) : Option (Int × zW) :=
  some ((-1), V)
theorem e_X9_shortest_169 {σ : zM} {m : Nat} (h : tOK m σ) {V : zW} : tR (tfi σ m) (f_X9_shortest_169  (tw σ m V)) (t_X9_shortest_169  V) := by
  unfold f_X9_shortest_169 t_X9_shortest_169
  exact te_some rfl

set_option maxRecDepth 100000
noncomputable def t_X9_shortest_157 (x1 x2 x3 : Int) (V : zW) : Option ((Int × Int × Int × zW) ⊕ (Int × zW)) :=
  if x2 ≠ 0 then
    t_X9_shortest_171 x1 x2 x3 V
  else
    tci (t_X9_spread x1 V) fun v1 V2 =>
    if v1 ≠ 0 then
      t_X9_shortest_171 x1 x2 x3 V2
    else
      (t_X9_shortest_169 V2).map (fun r => (.inr r))
theorem e_X9_shortest_157 {σ : zM} {m : Nat} (h : tOK m σ) {x1 x2 x3 : Int} {V : zW} : tR (Sum.map (fun s => (s.1, s.2.1, s.2.2.1, tw σ m s.2.2.2)) (tfi σ m)) (f_X9_shortest_157 (m : Int) x1 x2 x3 (tw σ m V)) (t_X9_shortest_157 x1 x2 x3 V) := by
  unfold f_X9_shortest_157 t_X9_shortest_157
  refine te_if ?_ ?_
  · exact (e_X9_shortest_171 h)
  · refine te_is h ?_
    refine te_ci (e_X9_spread h) (fun v1 V2 => ?_)
    refine te_if ?_ ?_
    · exact (e_X9_shortest_171 h)
    · exact te_map (e_X9_shortest_169 h) (fun r => rfl)
noncomputable def t_X9_shortest_150 (x1 x3 x4 t0 : Int) (V : zW) : Option ((Int × Int × zW) ⊕ ((Int × Int × Int × zW) ⊕ (Int × zW))) :=
  zlet (zadd x4 1) fun y1 =>
  some (.inl (t0, y1, V))
theorem e_X9_shortest_150 {σ : zM} {m : Nat} (h : tOK m σ) {x1 x3 x4 t0 : Int} {V : zW} : tR (Sum.map (fun s => (s.1, s.2.1, tw σ m s.2.2)) (Sum.map (fun s => (s.1, s.2.1, s.2.2.1, tw σ m s.2.2.2)) (tfi σ m))) (f_X9_shortest_150 (m : Int) x1 x3 x4 t0 (tw σ m V)) (t_X9_shortest_150 x1 x3 x4 t0 V) := by
  unfold f_X9_shortest_150 t_X9_shortest_150
  refine te_let (fun y1 => ?_)
  exact te_some rfl
noncomputable def t_X9_shortest_145 (x1 x3 x4 : Int) (V : zW) : Option ((Int × Int × zW) ⊕ ((Int × Int × Int × zW) ⊕ (Int × zW))) :=
  t_X9_shortest_150 x1 x3 x4 1 V
theorem e_X9_shortest_145 {σ : zM} {m : Nat} (h : tOK m σ) {x1 x3 x4 : Int} {V : zW} : tR (Sum.map (fun s => (s.1, s.2.1, tw σ m s.2.2)) (Sum.map (fun s => (s.1, s.2.1, s.2.2.1, tw σ m s.2.2.2)) (tfi σ m))) (f_X9_shortest_145 (m : Int) x1 x3 x4 (tw σ m V)) (t_X9_shortest_145 x1 x3 x4 V) := by
  unfold f_X9_shortest_145 t_X9_shortest_145
  exact (e_X9_shortest_150 h)
noncomputable def t_X9_shortest_130 (x1 x2 x3 x4 t0 t1 : Int) (V : zW) : Option ((Int × Int × zW) ⊕ ((Int × Int × Int × zW) ⊕ (Int × zW))) :=
  zgd (z01 t0) <|
  (tpa V 976 t1 t0).bind fun V1 =>
  if x2 ≠ 0 then
    t_X9_shortest_145 x1 x3 x4 V1
  else
    (tga V1 976 x4).bind fun v3 =>
    if v3 = 0 then
      t_X9_shortest_150 x1 x3 x4 0 V1
    else
      t_X9_shortest_145 x1 x3 x4 V1
theorem e_X9_shortest_130 {σ : zM} {m : Nat} (h : tOK m σ) {x1 x2 x3 x4 t0 t1 : Int} {V : zW} : tR (Sum.map (fun s => (s.1, s.2.1, tw σ m s.2.2)) (Sum.map (fun s => (s.1, s.2.1, s.2.2.1, tw σ m s.2.2.2)) (tfi σ m))) (f_X9_shortest_130 (m : Int) x1 x2 x3 x4 t0 t1 (tad m 976) (tw σ m V)) (t_X9_shortest_130 x1 x2 x3 x4 t0 t1 V) := by
  unfold f_X9_shortest_130 t_X9_shortest_130
  refine te_gd ?_
  refine te_pa h rfl (fun V1 => ?_)
  refine te_if ?_ ?_
  · exact (e_X9_shortest_145 h)
  · refine te_gr h (f := 976) rfl ?_
    refine te_ga h rfl (fun v3 => ?_)
    refine te_if ?_ ?_
    · exact (e_X9_shortest_150 h)
    · exact (e_X9_shortest_145 h)
noncomputable def t_X9_shortest_129 (x1 x2 x3 x4 t0 : Int) (V : zW) : Option ((Int × Int × zW) ⊕ ((Int × Int × Int × zW) ⊕ (Int × zW))) :=
  t_X9_shortest_130 x1 x2 x3 x4 0 t0 V
theorem e_X9_shortest_129 {σ : zM} {m : Nat} (h : tOK m σ) {x1 x2 x3 x4 t0 : Int} {V : zW} : tR (Sum.map (fun s => (s.1, s.2.1, tw σ m s.2.2)) (Sum.map (fun s => (s.1, s.2.1, s.2.2.1, tw σ m s.2.2.2)) (tfi σ m))) (f_X9_shortest_129 (m : Int) x1 x2 x3 x4 t0 (tad m 976) (tw σ m V)) (t_X9_shortest_129 x1 x2 x3 x4 t0 V) := by
  unfold f_X9_shortest_129 t_X9_shortest_129
  exact (e_X9_shortest_130 h)
noncomputable def t_X9_shortest_80_b (x1 x2 x3 x4 : Int) (V : zW) : Option ((Int × Int × zW) ⊕ ((Int × Int × Int × zW) ⊕ (Int × zW))) :=
  zlet (V.1 944) fun v1 =>
  if (zmul 8 v1) ≤ x4 then
    (t_X9_shortest_157 x1 x2 x3 V).map (fun r => (.inr r))
  else
    (tga V 975 x4).bind fun v4 =>
    if v4 ≠ x1 then
      t_X9_shortest_129 x1 x2 x3 x4 x4 V
    else
      tci (t_X9_nearest (zshr x4 3) (zand x4 7) V) fun v5 V6 =>
      if v5 ≤ 0 then
        t_X9_shortest_129 x1 x2 x3 x4 x4 V6
      else
        t_X9_shortest_130 x1 x2 x3 x4 1 x4 V6
theorem e_X9_shortest_80_b {σ : zM} {m : Nat} (h : tOK m σ) {x1 x2 x3 x4 : Int} {V : zW} : tR (Sum.map (fun s => (s.1, s.2.1, tw σ m s.2.2)) (Sum.map (fun s => (s.1, s.2.1, s.2.2.1, tw σ m s.2.2.2)) (tfi σ m))) (f_X9_shortest_80_b (m : Int) x1 x2 x3 x4 (tw σ m V)) (t_X9_shortest_80_b x1 x2 x3 x4 V) := by
  unfold f_X9_shortest_80_b t_X9_shortest_80_b
  refine te_gs h rfl (fun v1 => ?_)
  refine te_if ?_ ?_
  · exact te_map (e_X9_shortest_157 h) (fun r => rfl)
  · refine te_gr h (f := 976) rfl ?_
    refine te_gr h (f := 975) rfl ?_
    refine te_ga h rfl (fun v4 => ?_)
    refine te_if ?_ ?_
    · exact (e_X9_shortest_129 h)
    · refine te_is h ?_
      refine te_ci (e_X9_nearest h) (fun v5 V6 => ?_)
      refine te_if ?_ ?_
      · exact (e_X9_shortest_129 h)
      · exact (e_X9_shortest_130 h)
noncomputable def t_X9_shortest_80 (x1 x2 x3 x4 : Int) (V : zW) : Option ((Int × Int × Int × zW) ⊕ (Int × zW)) :=
  zloop (fun s : Int × Int × zW => t_X9_shortest_80_b x1 s.1 x3 s.2.1 s.2.2) (x2, x4, V)
theorem e_X9_shortest_80 {σ : zM} {m : Nat} (h : tOK m σ) {x1 x2 x3 x4 : Int} {V : zW} : tR (Sum.map (fun s => (s.1, s.2.1, s.2.2.1, tw σ m s.2.2.2)) (tfi σ m)) (f_X9_shortest_80 (m : Int) x1 x2 x3 x4 (tw σ m V)) (t_X9_shortest_80 x1 x2 x3 x4 V) := by
  unfold f_X9_shortest_80 t_X9_shortest_80
  refine te_loop (φ := (fun s => (s.1, s.2.1, tw σ m s.2.2))) (s := (x2, x4, V)) (fun s => ?_)
  exact e_X9_shortest_80_b h
noncomputable def t_X9_shortest_62_b (x1 x2 x3 : Int) (V : zW) : Option ((Int × Int × Int × zW) ⊕ (Int × zW)) :=
  zlet (V.1 944) fun v1 =>
  if (zmul 8 v1) < x3 then
    (t_X9_shortest_189 x1 V).map (fun r => (.inr r))
  else
    if x2 ≠ 0 then
      (t_X9_shortest_189 x1 V).map (fun r => (.inr r))
    else
      t_X9_shortest_80 x1 x2 x3 0 V
theorem e_X9_shortest_62_b {σ : zM} {m : Nat} (h : tOK m σ) {x1 x2 x3 : Int} {V : zW} : tR (Sum.map (fun s => (s.1, s.2.1, s.2.2.1, tw σ m s.2.2.2)) (tfi σ m)) (f_X9_shortest_62_b (m : Int) x1 x2 x3 (tw σ m V)) (t_X9_shortest_62_b x1 x2 x3 V) := by
  unfold f_X9_shortest_62_b t_X9_shortest_62_b
  refine te_gs h rfl (fun v1 => ?_)
  refine te_if ?_ ?_
  · exact te_map (e_X9_shortest_189 h) (fun r => rfl)
  · refine te_if ?_ ?_
    · exact te_map (e_X9_shortest_189 h) (fun r => rfl)
    · exact (e_X9_shortest_80 h)
noncomputable def t_X9_shortest_62 (x1 x2 x3 : Int) (V : zW) : Option (Int × zW) :=
  zloop (fun s : Int × Int × Int × zW => t_X9_shortest_62_b s.1 s.2.1 s.2.2.1 s.2.2.2) (x1, x2, x3, V)
theorem e_X9_shortest_62 {σ : zM} {m : Nat} (h : tOK m σ) {x1 x2 x3 : Int} {V : zW} : tR (tfi σ m) (f_X9_shortest_62 (m : Int) x1 x2 x3 (tw σ m V)) (t_X9_shortest_62 x1 x2 x3 V) := by
  unfold f_X9_shortest_62 t_X9_shortest_62
  refine te_loop (φ := (fun s => (s.1, s.2.1, s.2.2.1, tw σ m s.2.2.2))) (s := (x1, x2, x3, V)) (fun s => ?_)
  exact e_X9_shortest_62_b h
noncomputable def t_X9_shortest_56 (V : zW) : Option (Int × zW) :=
  t_X9_shortest_62 0 0 0 V
theorem e_X9_shortest_56 {σ : zM} {m : Nat} (h : tOK m σ) {V : zW} : tR (tfi σ m) (f_X9_shortest_56 (m : Int) (tw σ m V)) (t_X9_shortest_56  V) := by
  unfold f_X9_shortest_56 t_X9_shortest_56
  exact (e_X9_shortest_62 h)
noncomputable def t_X9_shortest_42 (x1 t0 t1 : Int) (V : zW) : Option ((Int × zW) ⊕ (Int × zW)) :=
  (tpa V 975 t1 t0).bind fun V1 =>
  zgd (z01 0) <|
  (tpa V1 976 x1 0).bind fun V3 =>
  zlet (zadd x1 1) fun y4 =>
  some (.inl (y4, V3))
theorem e_X9_shortest_42 {σ : zM} {m : Nat} (h : tOK m σ) {x1 t0 t1 : Int} {V : zW} : tR (Sum.map (fun s => (s.1, tw σ m s.2)) (tfi σ m)) (f_X9_shortest_42 (m : Int) x1 t0 t1 (tad m 975) (tw σ m V)) (t_X9_shortest_42 x1 t0 t1 V) := by
  unfold f_X9_shortest_42 t_X9_shortest_42
  refine te_pa h rfl (fun V1 => ?_)
  refine te_gr h (f := 976) rfl ?_
  refine te_gd ?_
  refine te_pa h rfl (fun V3 => ?_)
  refine te_let (fun y4 => ?_)
  exact te_some rfl
noncomputable def t_X9_shortest_41 (x1 t0 : Int) (V : zW) : Option ((Int × zW) ⊕ (Int × zW)) :=
  t_X9_shortest_42 x1 (-1) t0 V
theorem e_X9_shortest_41 {σ : zM} {m : Nat} (h : tOK m σ) {x1 t0 : Int} {V : zW} : tR (Sum.map (fun s => (s.1, tw σ m s.2)) (tfi σ m)) (f_X9_shortest_41 (m : Int) x1 t0 (tad m 975) (tw σ m V)) (t_X9_shortest_41 x1 t0 V) := by
  unfold f_X9_shortest_41 t_X9_shortest_41
  exact (e_X9_shortest_42 h)
noncomputable def t_X9_shortest_2_b (x1 : Int) (V : zW) : Option ((Int × zW) ⊕ (Int × zW)) :=
  zlet (V.1 944) fun v1 =>
  if (zmul 8 v1) ≤ x1 then
    (t_X9_shortest_56 V).map (fun r => (.inr r))
  else
    zlet (V.1 964) fun v3 =>
    if (zshl 1 v3) ≤ x1 then
      t_X9_shortest_41 x1 x1 V
    else
      tci (t_X9_isTrue 0 x1 V) fun v4 V5 =>
      if v4 ≠ 0 then
        t_X9_shortest_41 x1 x1 V5
      else
        t_X9_shortest_42 x1 0 x1 V5
theorem e_X9_shortest_2_b {σ : zM} {m : Nat} (h : tOK m σ) {x1 : Int} {V : zW} : tR (Sum.map (fun s => (s.1, tw σ m s.2)) (tfi σ m)) (f_X9_shortest_2_b (m : Int) x1 (tw σ m V)) (t_X9_shortest_2_b x1 V) := by
  unfold f_X9_shortest_2_b t_X9_shortest_2_b
  refine te_gs h rfl (fun v1 => ?_)
  refine te_if ?_ ?_
  · exact te_map (e_X9_shortest_56 h) (fun r => rfl)
  · refine te_gr h (f := 975) rfl ?_
    refine te_gs h rfl (fun v3 => ?_)
    refine te_if ?_ ?_
    · exact (e_X9_shortest_41 h)
    · refine te_is h ?_
      refine te_ci (e_X9_isTrue h) (fun v4 V5 => ?_)
      refine te_if ?_ ?_
      · exact (e_X9_shortest_41 h)
      · exact (e_X9_shortest_42 h)
noncomputable def t_X9_shortest_2 (x1 : Int) (V : zW) : Option (Int × zW) :=
  zloop (fun s : Int × zW => t_X9_shortest_2_b s.1 s.2) (x1, V)
theorem e_X9_shortest_2 {σ : zM} {m : Nat} (h : tOK m σ) {x1 : Int} {V : zW} : tR (tfi σ m) (f_X9_shortest_2 (m : Int) x1 (tw σ m V)) (t_X9_shortest_2 x1 V) := by
  unfold f_X9_shortest_2 t_X9_shortest_2
  refine te_loop (φ := (fun s => (s.1, tw σ m s.2))) (s := (x1, V)) (fun s => ?_)
  exact e_X9_shortest_2_b h
noncomputable def t_X9_shortest (V : zW) : Option (Int × zW) :=
  t_X9_shortest_2 0 V
theorem e_X9_shortest {σ : zM} {m : Nat} (h : tOK m σ) {V : zW} : tR (tfi σ m) (f_X9_shortest (m : Int) (tw σ m V)) (t_X9_shortest  V) := by
  unfold f_X9_shortest t_X9_shortest
  exact (e_X9_shortest_2 h)
noncomputable def t_X9_keep (F : Nat) (x1 x2 : Int) (V : zW) : Option zW :=
  zlet ((zmul 9 (zrem x1 3))) fun y1 =>
  (tga V F (zdiv x1 3)).bind fun v2 =>
  (tpa V F (zdiv x1 3) (zor (zand v2 (zxor (zshl 511 y1) (-1))) (zshl x2 y1))).bind fun V3 =>
  some V3
theorem e_X9_keep {σ : zM} {m : Nat} (h : tOK m σ) {F : Nat} (hF : tkd F = 101) {x1 x2 : Int} {V : zW} : tR (tfv σ m) (f_X9_keep (tad m F) x1 x2 (tw σ m V)) (t_X9_keep F x1 x2 V) := by
  unfold f_X9_keep t_X9_keep
  refine te_let (fun y1 => ?_)
  refine te_ga h hF (fun v2 => ?_)
  refine te_pa h hF (fun V3 => ?_)
  exact te_some rfl
noncomputable def t_X9_stemOf_224 (x2 : Int) (V : zW) : Option (Int × zW) :=
  some (x2, V)
theorem e_X9_stemOf_224 {σ : zM} {m : Nat} (h : tOK m σ) {x2 : Int} {V : zW} : tR (tfi σ m) (f_X9_stemOf_224 x2 (tw σ m V)) (t_X9_stemOf_224 x2 V) := by
  unfold f_X9_stemOf_224 t_X9_stemOf_224
  exact te_some rfl
noncomputable def t_X9_stemOf_195 (x3 x4 x5 : Int) (V : zW) : Option ((Int × Int × Int × zW) ⊕ (Int × zW)) :=
  tcv (t_X9_keep 980 (zsub x3 1) x4 V) fun V2 =>
  (tga V2 949 x4).bind fun v4 =>
  zlet (zadd x3 1) fun y5 =>
  some (.inl (v4, x5, y5, V2))
theorem e_X9_stemOf_195 {σ : zM} {m : Nat} (h : tOK m σ) {x3 x4 x5 : Int} {V : zW} : tR (Sum.map (fun s => (s.1, s.2.1, s.2.2.1, tw σ m s.2.2.2)) (tfi σ m)) (f_X9_stemOf_195 (m : Int) x3 x4 x5 (tw σ m V)) (t_X9_stemOf_195 x3 x4 x5 V) := by
  unfold f_X9_stemOf_195 t_X9_stemOf_195
  refine te_gr h (f := 980) rfl ?_
  refine te_cv (e_X9_keep h rfl) (fun V2 => ?_)
  refine te_gr h (f := 949) rfl ?_
  refine te_ga h rfl (fun v4 => ?_)
  refine te_let (fun y5 => ?_)
  exact te_some rfl
noncomputable def t_X9_stemOf_187 (x1 x2 x3 x5 x6 t0 : Int) (V : zW) : Option ((Int × Int × Int × zW) ⊕ ((Int × Int × Int × zW) ⊕ (Int × zW))) :=
  zlet (zadd x6 1) fun y1 =>
  some (.inl (t0, x5, y1, V))
theorem e_X9_stemOf_187 {σ : zM} {m : Nat} (h : tOK m σ) {x1 x2 x3 x5 x6 t0 : Int} {V : zW} : tR (Sum.map (fun s => (s.1, s.2.1, s.2.2.1, tw σ m s.2.2.2)) (Sum.map (fun s => (s.1, s.2.1, s.2.2.1, tw σ m s.2.2.2)) (tfi σ m))) (f_X9_stemOf_187 (m : Int) x1 x2 x3 x5 x6 t0 (tw σ m V)) (t_X9_stemOf_187 x1 x2 x3 x5 x6 t0 V) := by
  unfold f_X9_stemOf_187 t_X9_stemOf_187
  refine te_let (fun y1 => ?_)
  exact te_some rfl
noncomputable def t_X9_stemOf_175 (x1 x2 x3 x4 x5 x6 : Int) (V : zW) : Option ((Int × Int × Int × zW) ⊕ ((Int × Int × Int × zW) ⊕ (Int × zW))) :=
  if x5 = 0 then
    t_X9_stemOf_187 x1 x2 x3 x5 x6 x4 V
  else
    t_X9_stemOf_187 x1 x2 x3 x5 x6 x6 V
theorem e_X9_stemOf_175 {σ : zM} {m : Nat} (h : tOK m σ) {x1 x2 x3 x4 x5 x6 : Int} {V : zW} : tR (Sum.map (fun s => (s.1, s.2.1, s.2.2.1, tw σ m s.2.2.2)) (Sum.map (fun s => (s.1, s.2.1, s.2.2.1, tw σ m s.2.2.2)) (tfi σ m))) (f_X9_stemOf_175 (m : Int) x1 x2 x3 x4 x5 x6 (tw σ m V)) (t_X9_stemOf_175 x1 x2 x3 x4 x5 x6 V) := by
  unfold f_X9_stemOf_175 t_X9_stemOf_175
  refine te_if ?_ ?_
  · exact (e_X9_stemOf_187 h)
  · exact (e_X9_stemOf_187 h)
noncomputable def t_X9_stemOf_169 (x1 x2 x3 x4 x5 x6 x7 : Int) (V : zW) : Option ((Int × Int × zW) ⊕ ((Int × Int × Int × zW) ⊕ ((Int × Int × Int × zW) ⊕ (Int × zW)))) :=
  zlet (zadd x7 1) fun y1 =>
  some (.inl (x5, y1, V))
theorem e_X9_stemOf_169 {σ : zM} {m : Nat} (h : tOK m σ) {x1 x2 x3 x4 x5 x6 x7 : Int} {V : zW} : tR (Sum.map (fun s => (s.1, s.2.1, tw σ m s.2.2)) (Sum.map (fun s => (s.1, s.2.1, s.2.2.1, tw σ m s.2.2.2)) (Sum.map (fun s => (s.1, s.2.1, s.2.2.1, tw σ m s.2.2.2)) (tfi σ m)))) (f_X9_stemOf_169 (m : Int) x1 x2 x3 x4 x5 x6 x7 (tw σ m V)) (t_X9_stemOf_169 x1 x2 x3 x4 x5 x6 x7 V) := by
  unfold f_X9_stemOf_169 t_X9_stemOf_169
  refine te_let (fun y1 => ?_)
  exact te_some rfl
noncomputable def t_X9_stemOf_98_b (x1 x2 x3 x4 x5 x6 x7 : Int) (V : zW) : Option ((Int × Int × zW) ⊕ ((Int × Int × Int × zW) ⊕ ((Int × Int × Int × zW) ⊕ (Int × zW)))) :=
  zlet (V.1 964) fun v1 =>
  if (zshl 1 v1) ≤ x7 then
    (t_X9_stemOf_175 x1 x2 x3 x4 x5 x6 V).map (fun r => (.inr r))
  else
    (tga V 949 x6).bind fun v3 =>
    zlet ((zadd (zmul 8 v3) x7)) fun y4 =>
    (tga V 975 y4).bind fun v6 =>
    if v6 ≠ x3 then
      t_X9_stemOf_169 x1 x2 x3 x4 x5 x6 x7 V
    else
      (tga V 976 y4).bind fun v8 =>
      if v8 = 0 then
        t_X9_stemOf_169 x1 x2 x3 x4 x5 x6 x7 V
      else
        tci (t_X9_truthAt x1 x7 V) fun v9 V10 =>
        if (zand (zshr x2 v9) 1) ≠ 1 then
          t_X9_stemOf_169 x1 x2 x3 x4 x5 x6 x7 V10
        else
          zlet ((zor x5 (zshl 1 x7))) fun y11 =>
          t_X9_stemOf_169 x1 x2 x3 x4 y11 x6 x7 V10
theorem e_X9_stemOf_98_b {σ : zM} {m : Nat} (h : tOK m σ) {x1 x2 x3 x4 x5 x6 x7 : Int} {V : zW} : tR (Sum.map (fun s => (s.1, s.2.1, tw σ m s.2.2)) (Sum.map (fun s => (s.1, s.2.1, s.2.2.1, tw σ m s.2.2.2)) (Sum.map (fun s => (s.1, s.2.1, s.2.2.1, tw σ m s.2.2.2)) (tfi σ m)))) (f_X9_stemOf_98_b (m : Int) x1 x2 x3 x4 x5 x6 x7 (tw σ m V)) (t_X9_stemOf_98_b x1 x2 x3 x4 x5 x6 x7 V) := by
  unfold f_X9_stemOf_98_b t_X9_stemOf_98_b
  refine te_gs h rfl (fun v1 => ?_)
  refine te_if ?_ ?_
  · exact te_map (e_X9_stemOf_175 h) (fun r => rfl)
  · refine te_gr h (f := 949) rfl ?_
    refine te_ga h rfl (fun v3 => ?_)
    refine te_let (fun y4 => ?_)
    refine te_gr h (f := 975) rfl ?_
    refine te_ga h rfl (fun v6 => ?_)
    refine te_if ?_ ?_
    · exact (e_X9_stemOf_169 h)
    · refine te_gr h (f := 976) rfl ?_
      refine te_ga h rfl (fun v8 => ?_)
      refine te_if ?_ ?_
      · exact (e_X9_stemOf_169 h)
      · refine te_is h ?_
        refine te_ci (e_X9_truthAt h) (fun v9 V10 => ?_)
        refine te_if ?_ ?_
        · exact (e_X9_stemOf_169 h)
        · refine te_let (fun y11 => ?_)
          exact (e_X9_stemOf_169 h)
noncomputable def t_X9_stemOf_98 (x1 x2 x3 x4 x5 x6 x7 : Int) (V : zW) : Option ((Int × Int × Int × zW) ⊕ ((Int × Int × Int × zW) ⊕ (Int × zW))) :=
  zloop (fun s : Int × Int × zW => t_X9_stemOf_98_b x1 x2 x3 x4 s.1 x6 s.2.1 s.2.2) (x5, x7, V)
theorem e_X9_stemOf_98 {σ : zM} {m : Nat} (h : tOK m σ) {x1 x2 x3 x4 x5 x6 x7 : Int} {V : zW} : tR (Sum.map (fun s => (s.1, s.2.1, s.2.2.1, tw σ m s.2.2.2)) (Sum.map (fun s => (s.1, s.2.1, s.2.2.1, tw σ m s.2.2.2)) (tfi σ m))) (f_X9_stemOf_98 (m : Int) x1 x2 x3 x4 x5 x6 x7 (tw σ m V)) (t_X9_stemOf_98 x1 x2 x3 x4 x5 x6 x7 V) := by
  unfold f_X9_stemOf_98 t_X9_stemOf_98
  refine te_loop (φ := (fun s => (s.1, s.2.1, tw σ m s.2.2))) (s := (x5, x7, V)) (fun s => ?_)
  exact e_X9_stemOf_98_b h
noncomputable def t_X9_stemOf_74_b (x1 x2 x3 x4 x5 x6 : Int) (V : zW) : Option ((Int × Int × Int × zW) ⊕ ((Int × Int × Int × zW) ⊕ (Int × zW))) :=
  (tga V 948 (zadd x1 1)).bind fun v2 =>
  if v2 ≤ x6 then
    (t_X9_stemOf_195 x3 x4 x5 V).map (fun r => (.inr r))
  else
    if 0 ≤ x4 then
      (t_X9_stemOf_195 x3 x4 x5 V).map (fun r => (.inr r))
    else
      t_X9_stemOf_98 x1 x2 x3 x4 0 x6 0 V
theorem e_X9_stemOf_74_b {σ : zM} {m : Nat} (h : tOK m σ) {x1 x2 x3 x4 x5 x6 : Int} {V : zW} : tR (Sum.map (fun s => (s.1, s.2.1, s.2.2.1, tw σ m s.2.2.2)) (Sum.map (fun s => (s.1, s.2.1, s.2.2.1, tw σ m s.2.2.2)) (tfi σ m))) (f_X9_stemOf_74_b (m : Int) x1 x2 x3 x4 x5 x6 (tw σ m V)) (t_X9_stemOf_74_b x1 x2 x3 x4 x5 x6 V) := by
  unfold f_X9_stemOf_74_b t_X9_stemOf_74_b
  refine te_gr h (f := 948) rfl ?_
  refine te_ga h rfl (fun v2 => ?_)
  refine te_if ?_ ?_
  · exact te_map (e_X9_stemOf_195 h) (fun r => rfl)
  · refine te_if ?_ ?_
    · exact te_map (e_X9_stemOf_195 h) (fun r => rfl)
    · exact (e_X9_stemOf_98 h)
noncomputable def t_X9_stemOf_74 (x1 x2 x3 x4 x5 x6 : Int) (V : zW) : Option ((Int × Int × Int × zW) ⊕ (Int × zW)) :=
  zloop (fun s : Int × Int × Int × zW => t_X9_stemOf_74_b x1 x2 x3 s.1 s.2.1 s.2.2.1 s.2.2.2) (x4, x5, x6, V)
theorem e_X9_stemOf_74 {σ : zM} {m : Nat} (h : tOK m σ) {x1 x2 x3 x4 x5 x6 : Int} {V : zW} : tR (Sum.map (fun s => (s.1, s.2.1, s.2.2.1, tw σ m s.2.2.2)) (tfi σ m)) (f_X9_stemOf_74 (m : Int) x1 x2 x3 x4 x5 x6 (tw σ m V)) (t_X9_stemOf_74 x1 x2 x3 x4 x5 x6 V) := by
  unfold f_X9_stemOf_74 t_X9_stemOf_74
  refine te_loop (φ := (fun s => (s.1, s.2.1, s.2.2.1, tw σ m s.2.2.2))) (s := (x4, x5, x6, V)) (fun s => ?_)
  exact e_X9_stemOf_74_b h
noncomputable def t_X9_stemOf_52_b (x1 x2 x3 : Int) (V : zW) : Option ((Int × Int × Int × zW) ⊕ (Int × zW)) :=
  zlet (V.1 978) fun v1 =>
  if v1 < x3 then
    (t_X9_stemOf_224 x2 V).map (fun r => (.inr r))
  else
    (tga V 948 x1).bind fun v3 =>
    t_X9_stemOf_74 x1 x2 x3 (-1) 0 v3 V
theorem e_X9_stemOf_52_b {σ : zM} {m : Nat} (h : tOK m σ) {x1 x2 x3 : Int} {V : zW} : tR (Sum.map (fun s => (s.1, s.2.1, s.2.2.1, tw σ m s.2.2.2)) (tfi σ m)) (f_X9_stemOf_52_b (m : Int) x1 x2 x3 (tw σ m V)) (t_X9_stemOf_52_b x1 x2 x3 V) := by
  unfold f_X9_stemOf_52_b t_X9_stemOf_52_b
  refine te_gs h rfl (fun v1 => ?_)
  refine te_if ?_ ?_
  · exact te_map (e_X9_stemOf_224 h) (fun r => rfl)
  · refine te_gr h (f := 948) rfl ?_
    refine te_ga h rfl (fun v3 => ?_)
    exact (e_X9_stemOf_74 h)
noncomputable def t_X9_stemOf_52 (x1 x2 x3 : Int) (V : zW) : Option (Int × zW) :=
  zloop (fun s : Int × Int × Int × zW => t_X9_stemOf_52_b s.1 s.2.1 s.2.2.1 s.2.2.2) (x1, x2, x3, V)
theorem e_X9_stemOf_52 {σ : zM} {m : Nat} (h : tOK m σ) {x1 x2 x3 : Int} {V : zW} : tR (tfi σ m) (f_X9_stemOf_52 (m : Int) x1 x2 x3 (tw σ m V)) (t_X9_stemOf_52 x1 x2 x3 V) := by
  unfold f_X9_stemOf_52 t_X9_stemOf_52
  refine te_loop (φ := (fun s => (s.1, s.2.1, s.2.2.1, tw σ m s.2.2.2))) (s := (x1, x2, x3, V)) (fun s => ?_)
  exact e_X9_stemOf_52_b h
noncomputable def t_X9_stemOf_50 (x1 x2 : Int) (V : zW) : Option (Int × zW) :=
  t_X9_stemOf_52 x1 x2 1 V
theorem e_X9_stemOf_50 {σ : zM} {m : Nat} (h : tOK m σ) {x1 x2 : Int} {V : zW} : tR (tfi σ m) (f_X9_stemOf_50 (m : Int) x1 x2 (tw σ m V)) (t_X9_stemOf_50 x1 x2 V) := by
  unfold f_X9_stemOf_50 t_X9_stemOf_50
  exact (e_X9_stemOf_52 h)
noncomputable def t_X9_stemOf_42 (x1 x3 t0 t1 : Int) (V : zW) : Option ((Int × Int) ⊕ (Int × zW)) :=
  zlet ((zor t1 t0)) fun y1 =>
  zlet (zadd x3 1) fun y2 =>
  some (.inl (y1, y2))
theorem e_X9_stemOf_42 {σ : zM} {m : Nat} (h : tOK m σ) {x1 x3 t0 t1 : Int} {V : zW} : tR (Sum.map id (tfi σ m)) (f_X9_stemOf_42 (m : Int) x1 x3 t0 t1 (tw σ m V)) (t_X9_stemOf_42 x1 x3 t0 t1 V) := by
  unfold f_X9_stemOf_42 t_X9_stemOf_42
  refine te_let (fun y1 => ?_)
  refine te_let (fun y2 => ?_)
  exact te_some rfl
noncomputable def t_X9_stemOf_41 (x1 x3 t0 : Int) (V : zW) : Option ((Int × Int) ⊕ (Int × zW)) :=
  t_X9_stemOf_42 x1 x3 0 t0 V
theorem e_X9_stemOf_41 {σ : zM} {m : Nat} (h : tOK m σ) {x1 x3 t0 : Int} {V : zW} : tR (Sum.map id (tfi σ m)) (f_X9_stemOf_41 (m : Int) x1 x3 t0 (tw σ m V)) (t_X9_stemOf_41 x1 x3 t0 V) := by
  unfold f_X9_stemOf_41 t_X9_stemOf_41
  exact (e_X9_stemOf_42 h)
noncomputable def t_X9_stemOf_6_b (x1 x2 x3 : Int) (V : zW) : Option ((Int × Int) ⊕ (Int × zW)) :=
  zlet (V.1 964) fun v1 =>
  if (zshl 1 v1) ≤ x3 then
    (t_X9_stemOf_50 x1 x2 V).map (fun r => (.inr r))
  else
    (tga V 975 x3).bind fun v3 =>
    if v3 ≠ 0 then
      t_X9_stemOf_41 x1 x3 x2 V
    else
      (tga V 976 x3).bind fun v5 =>
      if v5 = 0 then
        t_X9_stemOf_41 x1 x3 x2 V
      else
        t_X9_stemOf_42 x1 x3 (zshl 1 x3) x2 V
theorem e_X9_stemOf_6_b {σ : zM} {m : Nat} (h : tOK m σ) {x1 x2 x3 : Int} {V : zW} : tR (Sum.map id (tfi σ m)) (f_X9_stemOf_6_b (m : Int) x1 x2 x3 (tw σ m V)) (t_X9_stemOf_6_b x1 x2 x3 V) := by
  unfold f_X9_stemOf_6_b t_X9_stemOf_6_b
  refine te_gs h rfl (fun v1 => ?_)
  refine te_if ?_ ?_
  · exact te_map (e_X9_stemOf_50 h) (fun r => rfl)
  · refine te_gr h (f := 975) rfl ?_
    refine te_ga h rfl (fun v3 => ?_)
    refine te_if ?_ ?_
    · exact (e_X9_stemOf_41 h)
    · refine te_gr h (f := 976) rfl ?_
      refine te_ga h rfl (fun v5 => ?_)
      refine te_if ?_ ?_
      · exact (e_X9_stemOf_41 h)
      · exact (e_X9_stemOf_42 h)
noncomputable def t_X9_stemOf_6 (x1 x2 x3 : Int) (V : zW) : Option (Int × zW) :=
  zloop (fun s : Int × Int => t_X9_stemOf_6_b x1 s.1 s.2 V) (x2, x3)
theorem e_X9_stemOf_6 {σ : zM} {m : Nat} (h : tOK m σ) {x1 x2 x3 : Int} {V : zW} : tR (tfi σ m) (f_X9_stemOf_6 (m : Int) x1 x2 x3 (tw σ m V)) (t_X9_stemOf_6 x1 x2 x3 V) := by
  unfold f_X9_stemOf_6 t_X9_stemOf_6
  refine te_loop (φ := id) (s := (x2, x3)) (fun s => ?_)
  exact e_X9_stemOf_6_b h
noncomputable def t_X9_stemOf (V : zW) : Option (Int × zW) :=
  t_X9_stemOf_6 0 0 0 V
theorem e_X9_stemOf {σ : zM} {m : Nat} (h : tOK m σ) {V : zW} : tR (tfi σ m) (f_X9_stemOf (m : Int) (tw σ m V)) (t_X9_stemOf  V) := by
  unfold f_X9_stemOf t_X9_stemOf
  exact (e_X9_stemOf_6 h)
noncomputable def t_X9_stepOf (F : Nat) (x1 : Int) (V : zW) : Option (Int × zW) :=
  (tga V F (zdiv x1 3)).bind fun v1 =>
  some ((zand (zshr v1 (zmul 9 (zrem x1 3))) 511), V)
theorem e_X9_stepOf {σ : zM} {m : Nat} (h : tOK m σ) {F : Nat} (hF : tkd F = 101) {x1 : Int} {V : zW} : tR (tfi σ m) (f_X9_stepOf (tad m F) x1 (tw σ m V)) (t_X9_stepOf F x1 V) := by
  unfold f_X9_stepOf t_X9_stepOf
  refine te_ga h hF (fun v1 => ?_)
  exact te_some rfl
noncomputable def t_X9_ahead_137 (x5 : Int) (V : zW) : Option (Int × zW) :=
  some (x5, V)
theorem e_X9_ahead_137 {σ : zM} {m : Nat} (h : tOK m σ) {x5 : Int} {V : zW} : tR (tfj σ m) (f_X9_ahead_137 x5 (tw σ m V)) (t_X9_ahead_137 x5 V) := by
  unfold f_X9_ahead_137 t_X9_ahead_137
  exact te_some rfl
noncomputable def t_X9_ahead_131 (x1 x2 x4 x5 x7 : Int) (V : zW) : Option ((Int × Int × zW) ⊕ (Int × zW)) :=
  zlet (zadd x7 1) fun y1 =>
  some (.inl (x5, y1, V))
theorem e_X9_ahead_131 {σ : zM} {m : Nat} (h : tOK m σ) {x1 x2 x4 x5 x7 : Int} {V : zW} : tR (Sum.map (fun s => (s.1, s.2.1, tw σ m s.2.2)) (tfj σ m)) (f_X9_ahead_131 (m : Int) x1 x2 x4 x5 x7 (tw σ m V)) (t_X9_ahead_131 x1 x2 x4 x5 x7 V) := by
  unfold f_X9_ahead_131 t_X9_ahead_131
  refine te_let (fun y1 => ?_)
  exact te_some rfl
noncomputable def t_X9_ahead_125 (x1 x2 x4 x5 x7 x8 x9 x10 : Int) (V : zW) : Option ((Int × Int × zW) ⊕ ((Int × Int × zW) ⊕ (Int × zW))) :=
  zlet (zadd x10 1) fun y1 =>
  some (.inl (x5, y1, V))
theorem e_X9_ahead_125 {σ : zM} {m : Nat} (h : tOK m σ) {x1 x2 x4 x5 x7 x8 x9 x10 : Int} {V : zW} : tR (Sum.map (fun s => (s.1, s.2.1, tw σ m s.2.2)) (Sum.map (fun s => (s.1, s.2.1, tw σ m s.2.2)) (tfj σ m))) (f_X9_ahead_125 (m : Int) x1 x2 x4 x5 x7 x8 x9 x10 (tw σ m V)) (t_X9_ahead_125 x1 x2 x4 x5 x7 x8 x9 x10 V) := by
  unfold f_X9_ahead_125 t_X9_ahead_125
  refine te_let (fun y1 => ?_)
  exact te_some rfl
noncomputable def t_X9_ahead_48_b (x1 x2 x4 x5 x7 x8 x9 x10 : Int) (V : zW) : Option ((Int × Int × zW) ⊕ ((Int × Int × zW) ⊕ (Int × zW))) :=
  zlet (V.1 964) fun v1 =>
  if (zshl 1 v1) ≤ x10 then
    (t_X9_ahead_131 x1 x2 x4 x5 x7 V).map (fun r => (.inr r))
  else
    zlet ((zor x10 x9)) fun y2 =>
    if (zlcmp (jand (jshr x2 (zadd (zmul 8 x8) x10)) 1) 1) ≠ 0 then
      t_X9_ahead_125 x1 x2 x4 x5 x7 x8 x9 x10 V
    else
      (tga V 949 x1).bind fun v4 =>
      tci (t_X9_away (zadd (zadd (zmul 64 v4) (zmul 8 x7)) y2) V) fun v5 V6 =>
      if v5 ≠ x4 then
        t_X9_ahead_125 x1 x2 x4 x5 x7 x8 x9 x10 V6
      else
        zlet ((jor x5 (jshl 1 (zadd (zmul 8 x7) y2)))) fun y7 =>
        t_X9_ahead_125 x1 x2 x4 y7 x7 x8 x9 x10 V6
theorem e_X9_ahead_48_b {σ : zM} {m : Nat} (h : tOK m σ) {x1 x2 x4 x5 x7 x8 x9 x10 : Int} {V : zW} : tR (Sum.map (fun s => (s.1, s.2.1, tw σ m s.2.2)) (Sum.map (fun s => (s.1, s.2.1, tw σ m s.2.2)) (tfj σ m))) (f_X9_ahead_48_b (m : Int) x1 x2 x4 x5 x7 x8 x9 x10 (tw σ m V)) (t_X9_ahead_48_b x1 x2 x4 x5 x7 x8 x9 x10 V) := by
  unfold f_X9_ahead_48_b t_X9_ahead_48_b
  refine te_gs h rfl (fun v1 => ?_)
  refine te_if ?_ ?_
  · exact te_map (e_X9_ahead_131 h) (fun r => rfl)
  · refine te_let (fun y2 => ?_)
    refine te_if ?_ ?_
    · exact (e_X9_ahead_125 h)
    · refine te_gr h (f := 949) rfl ?_
      refine te_ga h rfl (fun v4 => ?_)
      refine te_is h ?_
      refine te_ci (e_X9_away h) (fun v5 V6 => ?_)
      refine te_if ?_ ?_
      · exact (e_X9_ahead_125 h)
      · refine te_let (fun y7 => ?_)
        exact (e_X9_ahead_125 h)
noncomputable def t_X9_ahead_48 (x1 x2 x4 x5 x7 x8 x9 x10 : Int) (V : zW) : Option ((Int × Int × zW) ⊕ (Int × zW)) :=
  zloop (fun s : Int × Int × zW => t_X9_ahead_48_b x1 x2 x4 s.1 x7 x8 x9 s.2.1 s.2.2) (x5, x10, V)
theorem e_X9_ahead_48 {σ : zM} {m : Nat} (h : tOK m σ) {x1 x2 x4 x5 x7 x8 x9 x10 : Int} {V : zW} : tR (Sum.map (fun s => (s.1, s.2.1, tw σ m s.2.2)) (tfj σ m)) (f_X9_ahead_48 (m : Int) x1 x2 x4 x5 x7 x8 x9 x10 (tw σ m V)) (t_X9_ahead_48 x1 x2 x4 x5 x7 x8 x9 x10 V) := by
  unfold f_X9_ahead_48 t_X9_ahead_48
  refine te_loop (φ := (fun s => (s.1, s.2.1, tw σ m s.2.2))) (s := (x5, x10, V)) (fun s => ?_)
  exact e_X9_ahead_48_b h
noncomputable def t_X9_ahead_6_b (x1 x2 x4 x5 x7 : Int) (V : zW) : Option ((Int × Int × zW) ⊕ (Int × zW)) :=
  zlet (V.1 964) fun v1 =>
  if (zshl 1 v1) ≤ x7 then
    (t_X9_ahead_137 x5 V).map (fun r => (.inr r))
  else
    (tga V 950 x1).bind fun v3 =>
    tci (t_X9_truthAt v3 x7 V) fun v4 V5 =>
    (tga V5 949 x1).bind fun v7 =>
    tci (t_X9_settled v7 x7 V5) fun v8 V9 =>
    t_X9_ahead_48 x1 x2 x4 x5 x7 v4 v8 0 V9
theorem e_X9_ahead_6_b {σ : zM} {m : Nat} (h : tOK m σ) {x1 x2 x4 x5 x7 : Int} {V : zW} : tR (Sum.map (fun s => (s.1, s.2.1, tw σ m s.2.2)) (tfj σ m)) (f_X9_ahead_6_b (m : Int) x1 x2 x4 x5 x7 (tw σ m V)) (t_X9_ahead_6_b x1 x2 x4 x5 x7 V) := by
  unfold f_X9_ahead_6_b t_X9_ahead_6_b
  refine te_gs h rfl (fun v1 => ?_)
  refine te_if ?_ ?_
  · exact te_map (e_X9_ahead_137 h) (fun r => rfl)
  · refine te_gr h (f := 950) rfl ?_
    refine te_ga h rfl (fun v3 => ?_)
    refine te_is h ?_
    refine te_ci (e_X9_truthAt h) (fun v4 V5 => ?_)
    refine te_gr h (f := 949) rfl ?_
    refine te_ga h rfl (fun v7 => ?_)
    refine te_is h ?_
    refine te_ci (e_X9_settled h) (fun v8 V9 => ?_)
    exact (e_X9_ahead_48 h)
noncomputable def t_X9_ahead_6 (x1 x2 x4 x5 x7 : Int) (V : zW) : Option (Int × zW) :=
  zloop (fun s : Int × Int × zW => t_X9_ahead_6_b x1 x2 x4 s.1 s.2.1 s.2.2) (x5, x7, V)
theorem e_X9_ahead_6 {σ : zM} {m : Nat} (h : tOK m σ) {x1 x2 x4 x5 x7 : Int} {V : zW} : tR (tfj σ m) (f_X9_ahead_6 (m : Int) x1 x2 x4 x5 x7 (tw σ m V)) (t_X9_ahead_6 x1 x2 x4 x5 x7 V) := by
  unfold f_X9_ahead_6 t_X9_ahead_6
  refine te_loop (φ := (fun s => (s.1, s.2.1, tw σ m s.2.2))) (s := (x5, x7, V)) (fun s => ?_)
  exact e_X9_ahead_6_b h
noncomputable def t_X9_ahead (x1 x2 x4 : Int) (V : zW) : Option (Int × zW) :=
  t_X9_ahead_6 x1 x2 x4 0 0 V
theorem e_X9_ahead {σ : zM} {m : Nat} (h : tOK m σ) {x1 x2 x4 : Int} {V : zW} : tR (tfj σ m) (f_X9_ahead (m : Int) x1 x2 x4 (tw σ m V)) (t_X9_ahead x1 x2 x4 V) := by
  unfold f_X9_ahead t_X9_ahead
  exact (e_X9_ahead_6 h)
noncomputable def t_X9_round_127 (x3 : Int) (V : zW) : Option (Int × zW) :=
  some (x3, V)
theorem e_X9_round_127 {σ : zM} {m : Nat} (h : tOK m σ) {x3 : Int} {V : zW} : tR (tfi σ m) (f_X9_round_127 x3 (tw σ m V)) (t_X9_round_127 x3 V) := by
  unfold f_X9_round_127 t_X9_round_127
  exact te_some rfl
noncomputable def t_X9_round_93 (x3 x7 x8 x10 : Int) (V : zW) : Option ((Int × Int × Int × zW) ⊕ (Int × zW)) :=
  tcv (t_X9_keep 981 (zsub (zsub x3 1) x7) x10 V) fun V2 =>
  (tga V2 949 x10).bind fun v4 =>
  zlet (zadd x7 (-1)) fun y5 =>
  some (.inl (v4, x8, y5, V2))
theorem e_X9_round_93 {σ : zM} {m : Nat} (h : tOK m σ) {x3 x7 x8 x10 : Int} {V : zW} : tR (Sum.map (fun s => (s.1, s.2.1, s.2.2.1, tw σ m s.2.2.2)) (tfi σ m)) (f_X9_round_93 (m : Int) x3 x7 x8 x10 (tw σ m V)) (t_X9_round_93 x3 x7 x8 x10 V) := by
  unfold f_X9_round_93 t_X9_round_93
  refine te_gr h (f := 981) rfl ?_
  refine te_cv (e_X9_keep h rfl) (fun V2 => ?_)
  refine te_gr h (f := 949) rfl ?_
  refine te_ga h rfl (fun v4 => ?_)
  refine te_let (fun y5 => ?_)
  exact te_some rfl
noncomputable def t_X9_round_50_b (x3 x4 x5 x7 x8 x10 x11 : Int) (V : zW) : Option ((Int × Int × Int × zW) ⊕ ((Int × Int × Int × zW) ⊕ (Int × zW))) :=
  (tga V 948 (zadd x4 1)).bind fun v2 =>
  if v2 ≤ x11 then
    (t_X9_round_93 x3 x7 x8 x10 V).map (fun r => (.inr r))
  else
    if (zlcmp x8 0) ≠ 0 then
      (t_X9_round_93 x3 x7 x8 x10 V).map (fun r => (.inr r))
    else
      tcj (t_X9_ahead x11 x5 x7 V) fun v3 V4 =>
      zlet (zadd x11 1) fun y5 =>
      some (.inl (v3, x11, y5, V4))
theorem e_X9_round_50_b {σ : zM} {m : Nat} (h : tOK m σ) {x3 x4 x5 x7 x8 x10 x11 : Int} {V : zW} : tR (Sum.map (fun s => (s.1, s.2.1, s.2.2.1, tw σ m s.2.2.2)) (Sum.map (fun s => (s.1, s.2.1, s.2.2.1, tw σ m s.2.2.2)) (tfi σ m))) (f_X9_round_50_b (m : Int) x3 x4 x5 x7 x8 x10 x11 (tw σ m V)) (t_X9_round_50_b x3 x4 x5 x7 x8 x10 x11 V) := by
  unfold f_X9_round_50_b t_X9_round_50_b
  refine te_gr h (f := 948) rfl ?_
  refine te_ga h rfl (fun v2 => ?_)
  refine te_if ?_ ?_
  · exact te_map (e_X9_round_93 h) (fun r => rfl)
  · refine te_if ?_ ?_
    · exact te_map (e_X9_round_93 h) (fun r => rfl)
    · refine te_is h ?_
      refine te_cj (e_X9_ahead h) (fun v3 V4 => ?_)
      refine te_let (fun y5 => ?_)
      exact te_some rfl
noncomputable def t_X9_round_50 (x3 x4 x5 x7 x8 x10 x11 : Int) (V : zW) : Option ((Int × Int × Int × zW) ⊕ (Int × zW)) :=
  zloop (fun s : Int × Int × Int × zW => t_X9_round_50_b x3 x4 x5 x7 s.1 s.2.1 s.2.2.1 s.2.2.2) (x8, x10, x11, V)
theorem e_X9_round_50 {σ : zM} {m : Nat} (h : tOK m σ) {x3 x4 x5 x7 x8 x10 x11 : Int} {V : zW} : tR (Sum.map (fun s => (s.1, s.2.1, s.2.2.1, tw σ m s.2.2.2)) (tfi σ m)) (f_X9_round_50 (m : Int) x3 x4 x5 x7 x8 x10 x11 (tw σ m V)) (t_X9_round_50 x3 x4 x5 x7 x8 x10 x11 V) := by
  unfold f_X9_round_50 t_X9_round_50
  refine te_loop (φ := (fun s => (s.1, s.2.1, s.2.2.1, tw σ m s.2.2.2))) (s := (x8, x10, x11, V)) (fun s => ?_)
  exact e_X9_round_50_b h
noncomputable def t_X9_round_30_b (x3 x4 x5 x7 : Int) (V : zW) : Option ((Int × Int × Int × zW) ⊕ (Int × zW)) :=
  if x7 < 0 then
    (t_X9_round_127 x3 V).map (fun r => (.inr r))
  else
    (tga V 948 x4).bind fun v2 =>
    t_X9_round_50 x3 x4 x5 x7 0 (-1) v2 V
theorem e_X9_round_30_b {σ : zM} {m : Nat} (h : tOK m σ) {x3 x4 x5 x7 : Int} {V : zW} : tR (Sum.map (fun s => (s.1, s.2.1, s.2.2.1, tw σ m s.2.2.2)) (tfi σ m)) (f_X9_round_30_b (m : Int) x3 x4 x5 x7 (tw σ m V)) (t_X9_round_30_b x3 x4 x5 x7 V) := by
  unfold f_X9_round_30_b t_X9_round_30_b
  refine te_if ?_ ?_
  · exact te_map (e_X9_round_127 h) (fun r => rfl)
  · refine te_gr h (f := 948) rfl ?_
    refine te_ga h rfl (fun v2 => ?_)
    exact (e_X9_round_50 h)
noncomputable def t_X9_round_30 (x3 x4 x5 x7 : Int) (V : zW) : Option (Int × zW) :=
  zloop (fun s : Int × Int × Int × zW => t_X9_round_30_b x3 s.1 s.2.1 s.2.2.1 s.2.2.2) (x4, x5, x7, V)
theorem e_X9_round_30 {σ : zM} {m : Nat} (h : tOK m σ) {x3 x4 x5 x7 : Int} {V : zW} : tR (tfi σ m) (f_X9_round_30 (m : Int) x3 x4 x5 x7 (tw σ m V)) (t_X9_round_30 x3 x4 x5 x7 V) := by
  unfold f_X9_round_30 t_X9_round_30
  refine te_loop (φ := (fun s => (s.1, s.2.1, s.2.2.1, tw σ m s.2.2.2))) (s := (x4, x5, x7, V)) (fun s => ?_)
  exact e_X9_round_30_b h
noncomputable def t_X9_round (x1 x2 : Int) (V : zW) : Option (Int × zW) :=
  tci (t_X9_nearest x1 x2 V) fun v1 V2 =>
  tci (t_X9_settled x1 x2 V2) fun v3 V4 =>
  zlet ((jshl 1 (zadd (zmul 8 x2) v3))) fun y5 =>
  zlet ((zsub v1 1)) fun y6 =>
  t_X9_round_30 v1 x1 y5 y6 V4
theorem e_X9_round {σ : zM} {m : Nat} (h : tOK m σ) {x1 x2 : Int} {V : zW} : tR (tfi σ m) (f_X9_round (m : Int) x1 x2 (tw σ m V)) (t_X9_round x1 x2 V) := by
  unfold f_X9_round t_X9_round
  refine te_is h ?_
  refine te_ci (e_X9_nearest h) (fun v1 V2 => ?_)
  refine te_is h ?_
  refine te_ci (e_X9_settled h) (fun v3 V4 => ?_)
  refine te_let (fun y5 => ?_)
  refine te_let (fun y6 => ?_)
  exact (e_X9_round_30 h)
noncomputable def t_X9_sooner_35 (t0 : Int) (V : zW) : Option (Int × zW) :=
  zgd (z01 t0) <|
  some (t0, V)
theorem e_X9_sooner_35 {σ : zM} {m : Nat} (h : tOK m σ) {t0 : Int} {V : zW} : tR (tfi σ m) (f_X9_sooner_35 t0 (tw σ m V)) (t_X9_sooner_35 t0 V) := by
  unfold f_X9_sooner_35 t_X9_sooner_35
  refine te_gd ?_
  exact te_some rfl
noncomputable def t_X9_sooner_30 (V : zW) : Option (Int × zW) :=
  t_X9_sooner_35 1 V
theorem e_X9_sooner_30 {σ : zM} {m : Nat} (h : tOK m σ) {V : zW} : tR (tfi σ m) (f_X9_sooner_30  (tw σ m V)) (t_X9_sooner_30  V) := by
  unfold f_X9_sooner_30 t_X9_sooner_30
  exact (e_X9_sooner_35 h)
noncomputable def t_X9_sooner_15 (x1 : Int) (V : zW) : Option (Int × zW) :=
  zlet (V.1 979) fun v1 =>
  if v1 = 0 then
    t_X9_sooner_30 V
  else
    zlet (V.1 979) fun v2 =>
    if v2 ≤ x1 then
      t_X9_sooner_35 0 V
    else
      t_X9_sooner_30 V
theorem e_X9_sooner_15 {σ : zM} {m : Nat} (h : tOK m σ) {x1 : Int} {V : zW} : tR (tfi σ m) (f_X9_sooner_15 (m : Int) x1 (tw σ m V)) (t_X9_sooner_15 x1 V) := by
  unfold f_X9_sooner_15 t_X9_sooner_15
  refine te_gs h rfl (fun v1 => ?_)
  refine te_if ?_ ?_
  · exact (e_X9_sooner_30 h)
  · refine te_gs h rfl (fun v2 => ?_)
    refine te_if ?_ ?_
    · exact (e_X9_sooner_35 h)
    · exact (e_X9_sooner_30 h)
noncomputable def t_X9_sooner_107 (t0 : Int) (V : zW) : Option (Int × zW) :=
  zgd (z01 t0) <|
  some (t0, V)
theorem e_X9_sooner_107 {σ : zM} {m : Nat} (h : tOK m σ) {t0 : Int} {V : zW} : tR (tfi σ m) (f_X9_sooner_107 t0 (tw σ m V)) (t_X9_sooner_107 t0 V) := by
  unfold f_X9_sooner_107 t_X9_sooner_107
  refine te_gd ?_
  exact te_some rfl
noncomputable def t_X9_sooner_106 (V : zW) : Option (Int × zW) :=
  t_X9_sooner_107 0 V
theorem e_X9_sooner_106 {σ : zM} {m : Nat} (h : tOK m σ) {V : zW} : tR (tfi σ m) (f_X9_sooner_106  (tw σ m V)) (t_X9_sooner_106  V) := by
  unfold f_X9_sooner_106 t_X9_sooner_106
  exact (e_X9_sooner_107 h)
noncomputable def t_X9_sooner_73 (x1 x2 : Int) (V : zW) : Option (Int × zW) :=
  if x1 ≤ x2 then
    t_X9_sooner_106 V
  else
    tci (t_X9_stepOf 981 x2 V) fun v2 V3 =>
    zlet (V3.1 978) fun v5 =>
    tci (t_X9_stepOf 980 (zadd v5 x2) V3) fun v6 V7 =>
    if v6 ≤ v2 then
      t_X9_sooner_106 V7
    else
      t_X9_sooner_107 1 V7
theorem e_X9_sooner_73 {σ : zM} {m : Nat} (h : tOK m σ) {x1 x2 : Int} {V : zW} : tR (tfi σ m) (f_X9_sooner_73 (m : Int) x1 x2 (tw σ m V)) (t_X9_sooner_73 x1 x2 V) := by
  unfold f_X9_sooner_73 t_X9_sooner_73
  refine te_if ?_ ?_
  · exact (e_X9_sooner_106 h)
  · refine te_gr h (f := 981) rfl ?_
    refine te_ci (e_X9_stepOf h rfl) (fun v2 V3 => ?_)
    refine te_gr h (f := 980) rfl ?_
    refine te_gs h rfl (fun v5 => ?_)
    refine te_ci (e_X9_stepOf h rfl) (fun v6 V7 => ?_)
    refine te_if ?_ ?_
    · exact (e_X9_sooner_106 h)
    · exact (e_X9_sooner_107 h)
noncomputable def t_X9_sooner_38_b (x1 x2 : Int) (V : zW) : Option ((Int × zW) ⊕ (Int × zW)) :=
  if x1 ≤ x2 then
    (t_X9_sooner_73 x1 x2 V).map (fun r => (.inr r))
  else
    tci (t_X9_stepOf 981 x2 V) fun v2 V3 =>
    zlet (V3.1 978) fun v5 =>
    tci (t_X9_stepOf 980 (zadd v5 x2) V3) fun v6 V7 =>
    if v2 ≠ v6 then
      (t_X9_sooner_73 x1 x2 V7).map (fun r => (.inr r))
    else
      zlet (zadd x2 1) fun y8 =>
      some (.inl (y8, V7))
theorem e_X9_sooner_38_b {σ : zM} {m : Nat} (h : tOK m σ) {x1 x2 : Int} {V : zW} : tR (Sum.map (fun s => (s.1, tw σ m s.2)) (tfi σ m)) (f_X9_sooner_38_b (m : Int) x1 x2 (tw σ m V)) (t_X9_sooner_38_b x1 x2 V) := by
  unfold f_X9_sooner_38_b t_X9_sooner_38_b
  refine te_if ?_ ?_
  · exact te_map (e_X9_sooner_73 h) (fun r => rfl)
  · refine te_gr h (f := 981) rfl ?_
    refine te_ci (e_X9_stepOf h rfl) (fun v2 V3 => ?_)
    refine te_gr h (f := 980) rfl ?_
    refine te_gs h rfl (fun v5 => ?_)
    refine te_ci (e_X9_stepOf h rfl) (fun v6 V7 => ?_)
    refine te_if ?_ ?_
    · exact te_map (e_X9_sooner_73 h) (fun r => rfl)
    · refine te_let (fun y8 => ?_)
      exact te_some rfl
noncomputable def t_X9_sooner_38 (x1 x2 : Int) (V : zW) : Option (Int × zW) :=
  zloop (fun s : Int × zW => t_X9_sooner_38_b x1 s.1 s.2) (x2, V)
theorem e_X9_sooner_38 {σ : zM} {m : Nat} (h : tOK m σ) {x1 x2 : Int} {V : zW} : tR (tfi σ m) (f_X9_sooner_38 (m : Int) x1 x2 (tw σ m V)) (t_X9_sooner_38 x1 x2 V) := by
  unfold f_X9_sooner_38 t_X9_sooner_38
  refine te_loop (φ := (fun s => (s.1, tw σ m s.2))) (s := (x2, V)) (fun s => ?_)
  exact e_X9_sooner_38_b h
noncomputable def t_X9_sooner (x1 : Int) (V : zW) : Option (Int × zW) :=
  zlet (V.1 979) fun v1 =>
  if v1 = 0 then
    t_X9_sooner_15 x1 V
  else
    zlet (V.1 979) fun v2 =>
    if x1 = v2 then
      t_X9_sooner_38 x1 0 V
    else
      t_X9_sooner_15 x1 V
theorem e_X9_sooner {σ : zM} {m : Nat} (h : tOK m σ) {x1 : Int} {V : zW} : tR (tfi σ m) (f_X9_sooner (m : Int) x1 (tw σ m V)) (t_X9_sooner x1 V) := by
  unfold f_X9_sooner t_X9_sooner
  refine te_gs h rfl (fun v1 => ?_)
  refine te_if ?_ ?_
  · exact (e_X9_sooner_15 h)
  · refine te_gs h rfl (fun v2 => ?_)
    refine te_if ?_ ?_
    · exact (e_X9_sooner_38 h)
    · exact (e_X9_sooner_15 h)
noncomputable def t_X9_verify_176 (V : zW) : Option (Int × zW) :=
  zgd (z01 0) <|
  some (0, V)
theorem e_X9_verify_176 {σ : zM} {m : Nat} (h : tOK m σ) {V : zW} : tR (tfi σ m) (f_X9_verify_176  (tw σ m V)) (t_X9_verify_176  V) := by
  unfold f_X9_verify_176 t_X9_verify_176
  refine te_gd ?_
  exact te_some rfl
noncomputable def t_X9_verify_170 (x1 x2 x3 : Int) (V : zW) : Option ((Int × zW) ⊕ (Int × zW)) :=
  zlet (zadd x3 1) fun y1 =>
  some (.inl (y1, V))
theorem e_X9_verify_170 {σ : zM} {m : Nat} (h : tOK m σ) {x1 x2 x3 : Int} {V : zW} : tR (Sum.map (fun s => (s.1, tw σ m s.2)) (tfi σ m)) (f_X9_verify_170 (m : Int) x1 x2 x3 (tw σ m V)) (t_X9_verify_170 x1 x2 x3 V) := by
  unfold f_X9_verify_170 t_X9_verify_170
  refine te_let (fun y1 => ?_)
  exact te_some rfl
noncomputable def t_X9_verify_164 (x1 x2 x3 x4 : Int) (V : zW) : Option ((Int × zW) ⊕ (Int × zW)) :=
  twl (us V 979 x4) fun V1 =>
  t_X9_verify_170 x1 x2 x3 V1
theorem e_X9_verify_164 {σ : zM} {m : Nat} (h : tOK m σ) {x1 x2 x3 x4 : Int} {V : zW} : tR (Sum.map (fun s => (s.1, tw σ m s.2)) (tfi σ m)) (f_X9_verify_164 (m : Int) x1 x2 x3 x4 (tw σ m V)) (t_X9_verify_164 x1 x2 x3 x4 V) := by
  unfold f_X9_verify_164 t_X9_verify_164
  refine te_ps h rfl (fun V1 => ?_)
  exact (e_X9_verify_170 h)
noncomputable def t_X9_verify_128_b (x1 x2 x3 x4 x5 : Int) (V : zW) : Option ((Int × zW) ⊕ ((Int × zW) ⊕ (Int × zW))) :=
  if x4 ≤ x5 then
    (t_X9_verify_164 x1 x2 x3 x4 V).map (fun r => (.inr r))
  else
    zlet (V.1 978) fun v2 =>
    tci (t_X9_stepOf 981 x5 V) fun v4 V5 =>
    tcv (t_X9_keep 980 (zadd v2 x5) v4 V5) fun V6 =>
    zlet (zadd x5 1) fun y7 =>
    some (.inl (y7, V6))
theorem e_X9_verify_128_b {σ : zM} {m : Nat} (h : tOK m σ) {x1 x2 x3 x4 x5 : Int} {V : zW} : tR (Sum.map (fun s => (s.1, tw σ m s.2)) (Sum.map (fun s => (s.1, tw σ m s.2)) (tfi σ m))) (f_X9_verify_128_b (m : Int) x1 x2 x3 x4 x5 (tw σ m V)) (t_X9_verify_128_b x1 x2 x3 x4 x5 V) := by
  unfold f_X9_verify_128_b t_X9_verify_128_b
  refine te_if ?_ ?_
  · exact te_map (e_X9_verify_164 h) (fun r => rfl)
  · refine te_gr h (f := 980) rfl ?_
    refine te_gs h rfl (fun v2 => ?_)
    refine te_gr h (f := 981) rfl ?_
    refine te_ci (e_X9_stepOf h rfl) (fun v4 V5 => ?_)
    refine te_cv (e_X9_keep h rfl) (fun V6 => ?_)
    refine te_let (fun y7 => ?_)
    exact te_some rfl
noncomputable def t_X9_verify_128 (x1 x2 x3 x4 x5 : Int) (V : zW) : Option ((Int × zW) ⊕ (Int × zW)) :=
  zloop (fun s : Int × zW => t_X9_verify_128_b x1 x2 x3 x4 s.1 s.2) (x5, V)
theorem e_X9_verify_128 {σ : zM} {m : Nat} (h : tOK m σ) {x1 x2 x3 x4 x5 : Int} {V : zW} : tR (Sum.map (fun s => (s.1, tw σ m s.2)) (tfi σ m)) (f_X9_verify_128 (m : Int) x1 x2 x3 x4 x5 (tw σ m V)) (t_X9_verify_128 x1 x2 x3 x4 x5 V) := by
  unfold f_X9_verify_128 t_X9_verify_128
  refine te_loop (φ := (fun s => (s.1, tw σ m s.2))) (s := (x5, V)) (fun s => ?_)
  exact e_X9_verify_128_b h
noncomputable def t_X9_verify_84_b (x1 x2 x3 : Int) (V : zW) : Option ((Int × zW) ⊕ (Int × zW)) :=
  zlet (V.1 964) fun v1 =>
  if (zshl 1 v1) ≤ x3 then
    (t_X9_verify_176 V).map (fun r => (.inr r))
  else
    if (zand (zshr x1 x3) 1) ≠ 0 then
      tci (t_X9_round x2 x3 V) fun v2 V3 =>
      tci (t_X9_sooner v2 V3) fun v4 V5 =>
      if v4 ≠ 0 then
        t_X9_verify_128 x1 x2 x3 v2 0 V5
      else
        t_X9_verify_170 x1 x2 x3 V5
    else
      t_X9_verify_170 x1 x2 x3 V
theorem e_X9_verify_84_b {σ : zM} {m : Nat} (h : tOK m σ) {x1 x2 x3 : Int} {V : zW} : tR (Sum.map (fun s => (s.1, tw σ m s.2)) (tfi σ m)) (f_X9_verify_84_b (m : Int) x1 x2 x3 (tw σ m V)) (t_X9_verify_84_b x1 x2 x3 V) := by
  unfold f_X9_verify_84_b t_X9_verify_84_b
  refine te_gs h rfl (fun v1 => ?_)
  refine te_if ?_ ?_
  · exact te_map (e_X9_verify_176 h) (fun r => rfl)
  · refine te_if ?_ ?_
    · refine te_is h ?_
      refine te_ci (e_X9_round h) (fun v2 V3 => ?_)
      refine te_is h ?_
      refine te_ci (e_X9_sooner h) (fun v4 V5 => ?_)
      refine te_if ?_ ?_
      · exact (e_X9_verify_128 h)
      · exact (e_X9_verify_170 h)
    · exact (e_X9_verify_170 h)
noncomputable def t_X9_verify_84 (x1 x2 x3 : Int) (V : zW) : Option (Int × zW) :=
  zloop (fun s : Int × zW => t_X9_verify_84_b x1 x2 s.1 s.2) (x3, V)
theorem e_X9_verify_84 {σ : zM} {m : Nat} (h : tOK m σ) {x1 x2 x3 : Int} {V : zW} : tR (tfi σ m) (f_X9_verify_84 (m : Int) x1 x2 x3 (tw σ m V)) (t_X9_verify_84 x1 x2 x3 V) := by
  unfold f_X9_verify_84 t_X9_verify_84
  refine te_loop (φ := (fun s => (s.1, tw σ m s.2))) (s := (x3, V)) (fun s => ?_)
  exact e_X9_verify_84_b h
noncomputable def t_X9_verify_81 (x1 t0 : Int) (V : zW) : Option (Int × zW) :=
  t_X9_verify_84 x1 t0 0 V
theorem e_X9_verify_81 {σ : zM} {m : Nat} (h : tOK m σ) {x1 t0 : Int} {V : zW} : tR (tfi σ m) (f_X9_verify_81 (m : Int) x1 t0 (tw σ m V)) (t_X9_verify_81 x1 t0 V) := by
  unfold f_X9_verify_81 t_X9_verify_81
  exact (e_X9_verify_84 h)
noncomputable def t_X9_verify_13 (t0 : Int) (V : zW) : Option (Int × zW) :=
  twl (us V 900 t0) fun V1 =>
  zlet (V1.1 961) fun v2 =>
  if v2 ≠ 0 then
    twl (us V1 979 0) fun V3 =>
    tci (t_X9_shortest V3) fun v4 V5 =>
    twl (us V5 978 v4) fun V6 =>
    zlet (V6.1 978) fun v7 =>
    if 0 ≤ v7 then
      tci (t_X9_stemOf V6) fun v8 V9 =>
      zlet (V9.1 978) fun v10 =>
      if v10 ≤ 0 then
        t_X9_verify_81 v8 0 V9
      else
        zlet (V9.1 978) fun v13 =>
        tci (t_X9_stepOf 980 (zsub v13 1) V9) fun v14 V15 =>
        (tga V15 949 v14).bind fun v16 =>
        t_X9_verify_81 v8 v16 V15
    else
      zgd (z01 1) <|
      some (1, V6)
  else
    zgd (z01 0) <|
    some (0, V1)
theorem e_X9_verify_13 {σ : zM} {m : Nat} (h : tOK m σ) {t0 : Int} {V : zW} : tR (tfi σ m) (f_X9_verify_13 (m : Int) t0 (m : Int) (tw σ m V)) (t_X9_verify_13 t0 V) := by
  unfold f_X9_verify_13 t_X9_verify_13
  refine te_ps h rfl (fun V1 => ?_)
  refine te_gs h rfl (fun v2 => ?_)
  refine te_if ?_ ?_
  · refine te_ps h rfl (fun V3 => ?_)
    refine te_is h ?_
    refine te_ci (e_X9_shortest h) (fun v4 V5 => ?_)
    refine te_ps h rfl (fun V6 => ?_)
    refine te_gs h rfl (fun v7 => ?_)
    refine te_if ?_ ?_
    · refine te_is h ?_
      refine te_ci (e_X9_stemOf h) (fun v8 V9 => ?_)
      refine te_gs h rfl (fun v10 => ?_)
      refine te_if ?_ ?_
      · exact (e_X9_verify_81 h)
      · refine te_gr h (f := 949) rfl ?_
        refine te_gr h (f := 980) rfl ?_
        refine te_gs h rfl (fun v13 => ?_)
        refine te_ci (e_X9_stepOf h rfl) (fun v14 V15 => ?_)
        refine te_ga h rfl (fun v16 => ?_)
        exact (e_X9_verify_81 h)
    · refine te_gd ?_
      exact te_some rfl
  · refine te_gd ?_
    exact te_some rfl
noncomputable def t_X9_verify (V : zW) : Option (Int × zW) :=
  zlet (V.1 961) fun v1 =>
  if v1 = 0 then
    t_X9_verify_13 1 V
  else
    t_X9_verify_13 0 V
theorem e_X9_verify {σ : zM} {m : Nat} (h : tOK m σ) {V : zW} : tR (tfi σ m) (f_X9_verify (m : Int) (tw σ m V)) (t_X9_verify  V) := by
  unfold f_X9_verify t_X9_verify
  refine te_gs h rfl (fun v1 => ?_)
  refine te_if ?_ ?_
  · exact (e_X9_verify_13 h)
  · exact (e_X9_verify_13 h)
noncomputable def t_X9_stem (V : zW) : Option (Int × zW) :=
  twl (us V 900 0) fun V1 =>
  zlet (V1.1 978) fun v2 =>
  some (v2, V1)
theorem e_X9_stem {σ : zM} {m : Nat} (h : tOK m σ) {V : zW} : tR (tfi σ m) (f_X9_stem (m : Int) (tw σ m V)) (t_X9_stem  V) := by
  unfold f_X9_stem t_X9_stem
  refine te_ps h rfl (fun V1 => ?_)
  refine te_gs h rfl (fun v2 => ?_)
  exact te_some rfl
noncomputable def t_X9_cycle_20 (t0 : Int) (V : zW) : Option (Int × zW) :=
  some (t0, V)
theorem e_X9_cycle_20 {σ : zM} {m : Nat} (h : tOK m σ) {t0 : Int} {V : zW} : tR (tfi σ m) (f_X9_cycle_20 t0 (tw σ m V)) (t_X9_cycle_20 t0 V) := by
  unfold f_X9_cycle_20 t_X9_cycle_20
  exact te_some rfl
noncomputable def t_X9_cycle (V : zW) : Option (Int × zW) :=
  twl (us V 900 0) fun V1 =>
  zlet (V1.1 978) fun v2 =>
  if 0 ≤ v2 then
    zlet (V1.1 979) fun v3 =>
    t_X9_cycle_20 v3 V1
  else
    t_X9_cycle_20 0 V1
theorem e_X9_cycle {σ : zM} {m : Nat} (h : tOK m σ) {V : zW} : tR (tfi σ m) (f_X9_cycle (m : Int) (tw σ m V)) (t_X9_cycle  V) := by
  unfold f_X9_cycle t_X9_cycle
  refine te_ps h rfl (fun V1 => ?_)
  refine te_gs h rfl (fun v2 => ?_)
  refine te_if ?_ ?_
  · refine te_gs h rfl (fun v3 => ?_)
    exact (e_X9_cycle_20 h)
  · exact (e_X9_cycle_20 h)
noncomputable def t_X9_lasso_102 (t0 : Int) (V : zW) : Option (Int × zW) :=
  some (t0, V)
theorem e_X9_lasso_102 {σ : zM} {m : Nat} (h : tOK m σ) {t0 : Int} {V : zW} : tR (tfi σ m) (f_X9_lasso_102 t0 (tw σ m V)) (t_X9_lasso_102 t0 V) := by
  unfold f_X9_lasso_102 t_X9_lasso_102
  exact te_some rfl
noncomputable def t_X9_lasso_41 (x1 x2 t0 : Int) (V : zW) : Option (Int × zW) :=
  twl (us V 900 t0) fun V1 =>
  zlet (V1.1 900) fun v2 =>
  if v2 ≤ 0 then
    tci (t_X9_stepOf 980 x1 V1) fun v4 V5 =>
    if x2 ≠ 0 then
      if x2 ≠ 1 then
        (tga V5 952 v4).bind fun v7 =>
        t_X9_lasso_102 v7 V5
      else
        (tga V5 951 v4).bind fun v9 =>
        t_X9_lasso_102 v9 V5
    else
      (tga V5 950 v4).bind fun v12 =>
      (tga V5 948 v12).bind fun v13 =>
      t_X9_lasso_102 (zsub v4 v13) V5
  else
    some (0, V1)
theorem e_X9_lasso_41 {σ : zM} {m : Nat} (h : tOK m σ) {x1 x2 t0 : Int} {V : zW} : tR (tfi σ m) (f_X9_lasso_41 (m : Int) x1 x2 t0 (m : Int) (tw σ m V)) (t_X9_lasso_41 x1 x2 t0 V) := by
  unfold f_X9_lasso_41 t_X9_lasso_41
  refine te_ps h rfl (fun V1 => ?_)
  refine te_gs h rfl (fun v2 => ?_)
  refine te_if ?_ ?_
  · refine te_gr h (f := 980) rfl ?_
    refine te_ci (e_X9_stepOf h rfl) (fun v4 V5 => ?_)
    refine te_if ?_ ?_
    · refine te_if ?_ ?_
      · refine te_gr h (f := 952) rfl ?_
        refine te_ga h rfl (fun v7 => ?_)
        exact (e_X9_lasso_102 h)
      · refine te_gr h (f := 951) rfl ?_
        refine te_ga h rfl (fun v9 => ?_)
        exact (e_X9_lasso_102 h)
    · refine te_gr h (f := 948) rfl ?_
      refine te_gr h (f := 950) rfl ?_
      refine te_ga h rfl (fun v12 => ?_)
      refine te_ga h rfl (fun v13 => ?_)
      exact (e_X9_lasso_102 h)
  · exact te_some rfl
noncomputable def t_X9_lasso_36 (x1 x2 : Int) (V : zW) : Option (Int × zW) :=
  t_X9_lasso_41 x1 x2 1 V
theorem e_X9_lasso_36 {σ : zM} {m : Nat} (h : tOK m σ) {x1 x2 : Int} {V : zW} : tR (tfi σ m) (f_X9_lasso_36 (m : Int) x1 x2 (m : Int) (tw σ m V)) (t_X9_lasso_36 x1 x2 V) := by
  unfold f_X9_lasso_36 t_X9_lasso_36
  exact (e_X9_lasso_41 h)
noncomputable def t_X9_lasso (x1 x2 : Int) (V : zW) : Option (Int × zW) :=
  zlet (V.1 978) fun v1 =>
  if v1 < 0 then
    t_X9_lasso_36 x1 x2 V
  else
    zlet (V.1 978) fun v2 =>
    zlet (V.1 979) fun v3 =>
    tci (t_X9_in x1 0 (zsub (zadd v2 v3) 1) V) fun v4 V5 =>
    if v4 = 0 then
      t_X9_lasso_36 x1 x2 V5
    else
      tci (t_X9_in x2 0 2 V5) fun v6 V7 =>
      if v6 ≠ 0 then
        t_X9_lasso_41 x1 x2 0 V7
      else
        t_X9_lasso_36 x1 x2 V7
theorem e_X9_lasso {σ : zM} {m : Nat} (h : tOK m σ) {x1 x2 : Int} {V : zW} : tR (tfi σ m) (f_X9_lasso (m : Int) x1 x2 (tw σ m V)) (t_X9_lasso x1 x2 V) := by
  unfold f_X9_lasso t_X9_lasso
  refine te_gs h rfl (fun v1 => ?_)
  refine te_if ?_ ?_
  · exact (e_X9_lasso_36 h)
  · refine te_gs h rfl (fun v2 => ?_)
    refine te_gs h rfl (fun v3 => ?_)
    refine te_ci (e_X9_in h) (fun v4 V5 => ?_)
    refine te_if ?_ ?_
    · exact (e_X9_lasso_36 h)
    · refine te_ci (e_X9_in h) (fun v6 V7 => ?_)
      refine te_if ?_ ?_
      · exact (e_X9_lasso_41 h)
      · exact (e_X9_lasso_36 h)
noncomputable def t_X9_walk_13 (t0 : Int) (V : zW) : Option zW :=
  twl (us V 900 t0) fun V1 =>
  zlet (V1.1 906) fun v2 =>
  if v2 ≠ 0 then
    twl (us V1 982 0) fun V3 =>
    (tpa V3 983 0 0).bind fun V5 =>
    some V5
  else
    some V1
theorem e_X9_walk_13 {σ : zM} {m : Nat} (h : tOK m σ) {t0 : Int} {V : zW} : tR (tfv σ m) (f_X9_walk_13 (m : Int) t0 (m : Int) (tw σ m V)) (t_X9_walk_13 t0 V) := by
  unfold f_X9_walk_13 t_X9_walk_13
  refine te_ps h rfl (fun V1 => ?_)
  refine te_gs h rfl (fun v2 => ?_)
  refine te_if ?_ ?_
  · refine te_ps h rfl (fun V3 => ?_)
    refine te_gr h (f := 983) rfl ?_
    refine te_pa h rfl (fun V5 => ?_)
    exact te_some rfl
  · exact te_some rfl
noncomputable def t_X9_walk (V : zW) : Option zW :=
  zlet (V.1 906) fun v1 =>
  if v1 = 0 then
    t_X9_walk_13 1 V
  else
    t_X9_walk_13 0 V
theorem e_X9_walk {σ : zM} {m : Nat} (h : tOK m σ) {V : zW} : tR (tfv σ m) (f_X9_walk (m : Int) (tw σ m V)) (t_X9_walk  V) := by
  unfold f_X9_walk t_X9_walk
  refine te_gs h rfl (fun v1 => ?_)
  refine te_if ?_ ?_
  · exact (e_X9_walk_13 h)
  · exact (e_X9_walk_13 h)
noncomputable def t_X9_steps_47 (t0 : Int) (V : zW) : Option (Int × zW) :=
  some (t0, V)
theorem e_X9_steps_47 {σ : zM} {m : Nat} (h : tOK m σ) {t0 : Int} {V : zW} : tR (tfi σ m) (f_X9_steps_47 t0 (tw σ m V)) (t_X9_steps_47 t0 V) := by
  unfold f_X9_steps_47 t_X9_steps_47
  exact te_some rfl
noncomputable def t_X9_steps (V : zW) : Option (Int × zW) :=
  twl (us V 900 0) fun V1 =>
  zlet (V1.1 982) fun v2 =>
  if 0 ≤ v2 then
    zlet (V1.1 982) fun v5 =>
    (tga V1 983 v5).bind fun v6 =>
    (tga V1 948 (zadd v6 1)).bind fun v7 =>
    zlet (V1.1 982) fun v10 =>
    (tga V1 983 v10).bind fun v11 =>
    (tga V1 948 v11).bind fun v12 =>
    t_X9_steps_47 (zsub v7 v12) V1
  else
    t_X9_steps_47 0 V1
theorem e_X9_steps {σ : zM} {m : Nat} (h : tOK m σ) {V : zW} : tR (tfi σ m) (f_X9_steps (m : Int) (tw σ m V)) (t_X9_steps  V) := by
  unfold f_X9_steps t_X9_steps
  refine te_ps h rfl (fun V1 => ?_)
  refine te_gs h rfl (fun v2 => ?_)
  refine te_if ?_ ?_
  · refine te_gr h (f := 948) rfl ?_
    refine te_gr h (f := 983) rfl ?_
    refine te_gs h rfl (fun v5 => ?_)
    refine te_ga h rfl (fun v6 => ?_)
    refine te_ga h rfl (fun v7 => ?_)
    refine te_gr h (f := 948) rfl ?_
    refine te_gr h (f := 983) rfl ?_
    refine te_gs h rfl (fun v10 => ?_)
    refine te_ga h rfl (fun v11 => ?_)
    refine te_ga h rfl (fun v12 => ?_)
    exact (e_X9_steps_47 h)
  · exact (e_X9_steps_47 h)
noncomputable def t_X9_go_76 (x1 x2 t0 : Int) (V : zW) : Option (Int × zW) :=
  twl (us V 900 t0) fun V1 =>
  zlet (V1.1 900) fun v2 =>
  if v2 ≤ 0 then
    zlet (V1.1 982) fun v3 =>
    twl (us V1 982 (zadd v3 1)) fun V4 =>
    zlet (V4.1 982) fun v6 =>
    (tga V4 948 x2).bind fun v9 =>
    (tga V4 949 (zadd v9 x1)).bind fun v10 =>
    (tpa V4 983 v6 v10).bind fun V11 =>
    (tga V11 948 x2).bind fun v14 =>
    (tga V11 951 (zadd v14 x1)).bind fun v15 =>
    some (v15, V11)
  else
    some (0, V1)
theorem e_X9_go_76 {σ : zM} {m : Nat} (h : tOK m σ) {x1 x2 t0 : Int} {V : zW} : tR (tfi σ m) (f_X9_go_76 (m : Int) x1 x2 t0 (m : Int) (tw σ m V)) (t_X9_go_76 x1 x2 t0 V) := by
  unfold f_X9_go_76 t_X9_go_76
  refine te_ps h rfl (fun V1 => ?_)
  refine te_gs h rfl (fun v2 => ?_)
  refine te_if ?_ ?_
  · refine te_gs h rfl (fun v3 => ?_)
    refine te_ps h rfl (fun V4 => ?_)
    refine te_gr h (f := 983) rfl ?_
    refine te_gs h rfl (fun v6 => ?_)
    refine te_gr h (f := 949) rfl ?_
    refine te_gr h (f := 948) rfl ?_
    refine te_ga h rfl (fun v9 => ?_)
    refine te_ga h rfl (fun v10 => ?_)
    refine te_pa h rfl (fun V11 => ?_)
    refine te_gr h (f := 951) rfl ?_
    refine te_gr h (f := 948) rfl ?_
    refine te_ga h rfl (fun v14 => ?_)
    refine te_ga h rfl (fun v15 => ?_)
    exact te_some rfl
  · exact te_some rfl
noncomputable def t_X9_go_20 (x1 t0 : Int) (V : zW) : Option (Int × zW) :=
  zlet (V.1 982) fun v1 =>
  if 0 ≤ v1 then
    (tga V 948 (zadd t0 1)).bind fun v3 =>
    (tga V 948 t0).bind fun v5 =>
    tci (t_X9_in x1 0 (zsub (zsub v3 v5) 1) V) fun v6 V7 =>
    if v6 ≠ 0 then
      zlet (V7.1 982) fun v8 =>
      if v8 ≠ 60 then
        t_X9_go_76 x1 t0 0 V7
      else
        t_X9_go_76 x1 t0 3 V7
    else
      t_X9_go_76 x1 t0 2 V7
  else
    t_X9_go_76 x1 t0 1 V
theorem e_X9_go_20 {σ : zM} {m : Nat} (h : tOK m σ) {x1 t0 : Int} {V : zW} : tR (tfi σ m) (f_X9_go_20 (m : Int) x1 t0 (tw σ m V)) (t_X9_go_20 x1 t0 V) := by
  unfold f_X9_go_20 t_X9_go_20
  refine te_gs h rfl (fun v1 => ?_)
  refine te_if ?_ ?_
  · refine te_gr h (f := 948) rfl ?_
    refine te_ga h rfl (fun v3 => ?_)
    refine te_gr h (f := 948) rfl ?_
    refine te_ga h rfl (fun v5 => ?_)
    refine te_ci (e_X9_in h) (fun v6 V7 => ?_)
    refine te_if ?_ ?_
    · refine te_gs h rfl (fun v8 => ?_)
      refine te_if ?_ ?_
      · exact (e_X9_go_76 h)
      · exact (e_X9_go_76 h)
    · exact (e_X9_go_76 h)
  · exact (e_X9_go_76 h)
noncomputable def t_X9_go (x1 : Int) (V : zW) : Option (Int × zW) :=
  zlet (V.1 982) fun v1 =>
  if 0 ≤ v1 then
    zlet (V.1 982) fun v3 =>
    (tga V 983 v3).bind fun v4 =>
    t_X9_go_20 x1 v4 V
  else
    t_X9_go_20 x1 0 V
theorem e_X9_go {σ : zM} {m : Nat} (h : tOK m σ) {x1 : Int} {V : zW} : tR (tfi σ m) (f_X9_go (m : Int) x1 (tw σ m V)) (t_X9_go x1 V) := by
  unfold f_X9_go t_X9_go
  refine te_gs h rfl (fun v1 => ?_)
  refine te_if ?_ ?_
  · refine te_gr h (f := 983) rfl ?_
    refine te_gs h rfl (fun v3 => ?_)
    refine te_ga h rfl (fun v4 => ?_)
    exact (e_X9_go_20 h)
  · exact (e_X9_go_20 h)
noncomputable def t_X9_stood_42 (t0 : Int) (V : zW) : Option (Int × zW) :=
  zgd (z01 t0) <|
  some (t0, V)
theorem e_X9_stood_42 {σ : zM} {m : Nat} (h : tOK m σ) {t0 : Int} {V : zW} : tR (tfi σ m) (f_X9_stood_42 t0 (tw σ m V)) (t_X9_stood_42 t0 V) := by
  unfold f_X9_stood_42 t_X9_stood_42
  refine te_gd ?_
  exact te_some rfl
noncomputable def t_X9_stood_30 (V : zW) : Option (Int × zW) :=
  zlet (V.1 982) fun v1 =>
  if v1 < 0 then
    t_X9_stood_42 0 V
  else
    t_X9_stood_42 1 V
theorem e_X9_stood_30 {σ : zM} {m : Nat} (h : tOK m σ) {V : zW} : tR (tfi σ m) (f_X9_stood_30 (m : Int) (tw σ m V)) (t_X9_stood_30  V) := by
  unfold f_X9_stood_30 t_X9_stood_30
  refine te_gs h rfl (fun v1 => ?_)
  refine te_if ?_ ?_
  · exact (e_X9_stood_42 h)
  · exact (e_X9_stood_42 h)
noncomputable def t_X9_stood (V : zW) : Option (Int × zW) :=
  twl (us V 900 0) fun V1 =>
  zlet (V1.1 982) fun v2 =>
  if v2 < 0 then
    t_X9_stood_30 V1
  else
    zlet (V1.1 982) fun v5 =>
    (tga V1 983 v5).bind fun v6 =>
    (tga V1 947 v6).bind fun v7 =>
    tcv (t_X9_unpack v7 V1) fun V8 =>
    t_X9_stood_30 V8
theorem e_X9_stood {σ : zM} {m : Nat} (h : tOK m σ) {V : zW} : tR (tfi σ m) (f_X9_stood (m : Int) (tw σ m V)) (t_X9_stood  V) := by
  unfold f_X9_stood t_X9_stood
  refine te_ps h rfl (fun V1 => ?_)
  refine te_gs h rfl (fun v2 => ?_)
  refine te_if ?_ ?_
  · exact (e_X9_stood_30 h)
  · refine te_gr h (f := 947) rfl ?_
    refine te_gr h (f := 983) rfl ?_
    refine te_gs h rfl (fun v5 => ?_)
    refine te_ga h rfl (fun v6 => ?_)
    refine te_ga h rfl (fun v7 => ?_)
    refine te_is h ?_
    refine te_cv (e_X9_unpack h) (fun V8 => ?_)
    exact (e_X9_stood_30 h)
noncomputable def t_X9_value_17 (V : zW) : Option (Int × zW) :=
  some ((-1), V)
theorem e_X9_value_17 {σ : zM} {m : Nat} (h : tOK m σ) {V : zW} : tR (tfi σ m) (f_X9_value_17  (tw σ m V)) (t_X9_value_17  V) := by
  unfold f_X9_value_17 t_X9_value_17
  exact te_some rfl
noncomputable def t_X9_value_66 (t0 : Int) (V : zW) : Option (Int × zW) :=
  some (t0, V)
theorem e_X9_value_66 {σ : zM} {m : Nat} (h : tOK m σ) {t0 : Int} {V : zW} : tR (tfi σ m) (f_X9_value_66 t0 (tw σ m V)) (t_X9_value_66 t0 V) := by
  unfold f_X9_value_66 t_X9_value_66
  exact te_some rfl
noncomputable def t_X9_value (x1 : Int) (V : zW) : Option (Int × zW) :=
  tci (t_X9_stood V) fun v1 V2 =>
  if v1 = 0 then
    t_X9_value_17 V2
  else
    tci (t_X9_in x1 0 7 V2) fun v3 V4 =>
    if v3 ≠ 0 then
      (tga V4 909 x1).bind fun v6 =>
      if v6 < 0 then
        (tga V4 910 x1).bind fun v8 =>
        if v8 < 0 then
          t_X9_value_66 (-1) V4
        else
          (tga V4 910 x1).bind fun v11 =>
          (tga V4 956 v11).bind fun v12 =>
          t_X9_value_66 v12 V4
      else
        (tga V4 909 x1).bind fun v15 =>
        (tga V4 955 v15).bind fun v16 =>
        t_X9_value_66 v16 V4
    else
      t_X9_value_17 V4
theorem e_X9_value {σ : zM} {m : Nat} (h : tOK m σ) {x1 : Int} {V : zW} : tR (tfi σ m) (f_X9_value (m : Int) x1 (tw σ m V)) (t_X9_value x1 V) := by
  unfold f_X9_value t_X9_value
  refine te_is h ?_
  refine te_ci (e_X9_stood h) (fun v1 V2 => ?_)
  refine te_if ?_ ?_
  · exact (e_X9_value_17 h)
  · refine te_ci (e_X9_in h) (fun v3 V4 => ?_)
    refine te_if ?_ ?_
    · refine te_gr h (f := 909) rfl ?_
      refine te_ga h rfl (fun v6 => ?_)
      refine te_if ?_ ?_
      · refine te_gr h (f := 910) rfl ?_
        refine te_ga h rfl (fun v8 => ?_)
        refine te_if ?_ ?_
        · exact (e_X9_value_66 h)
        · refine te_gr h (f := 956) rfl ?_
          refine te_gr h (f := 910) rfl ?_
          refine te_ga h rfl (fun v11 => ?_)
          refine te_ga h rfl (fun v12 => ?_)
          exact (e_X9_value_66 h)
      · refine te_gr h (f := 955) rfl ?_
        refine te_gr h (f := 909) rfl ?_
        refine te_ga h rfl (fun v15 => ?_)
        refine te_ga h rfl (fun v16 => ?_)
        exact (e_X9_value_66 h)
    · exact (e_X9_value_17 h)
noncomputable def t_X9_message_47 (V : zW) : Option (Int × zW) :=
  some ((-1), V)
theorem e_X9_message_47 {σ : zM} {m : Nat} (h : tOK m σ) {V : zW} : tR (tfi σ m) (f_X9_message_47  (tw σ m V)) (t_X9_message_47  V) := by
  unfold f_X9_message_47 t_X9_message_47
  exact te_some rfl
noncomputable def t_X9_message (x1 x2 : Int) (V : zW) : Option (Int × zW) :=
  tci (t_X9_stood V) fun v1 V2 =>
  if v1 = 0 then
    t_X9_message_47 V2
  else
    tci (t_X9_in x1 0 7 V2) fun v3 V4 =>
    if v3 = 0 then
      t_X9_message_47 V4
    else
      (tga V4 910 x1).bind fun v6 =>
      if v6 < 0 then
        t_X9_message_47 V4
      else
        (tga V4 910 x1).bind fun v9 =>
        (tga V4 956 v9).bind fun v10 =>
        tci (t_X9_in x2 0 (zsub v10 1) V4) fun v11 V12 =>
        if v11 ≠ 0 then
          (tga V12 910 x1).bind fun v15 =>
          (tga V12 957 (zadd (zmul 3 v15) x2)).bind fun v16 =>
          some (v16, V12)
        else
          t_X9_message_47 V12
theorem e_X9_message {σ : zM} {m : Nat} (h : tOK m σ) {x1 x2 : Int} {V : zW} : tR (tfi σ m) (f_X9_message (m : Int) x1 x2 (tw σ m V)) (t_X9_message x1 x2 V) := by
  unfold f_X9_message t_X9_message
  refine te_is h ?_
  refine te_ci (e_X9_stood h) (fun v1 V2 => ?_)
  refine te_if ?_ ?_
  · exact (e_X9_message_47 h)
  · refine te_ci (e_X9_in h) (fun v3 V4 => ?_)
    refine te_if ?_ ?_
    · exact (e_X9_message_47 h)
    · refine te_gr h (f := 910) rfl ?_
      refine te_ga h rfl (fun v6 => ?_)
      refine te_if ?_ ?_
      · exact (e_X9_message_47 h)
      · refine te_gr h (f := 956) rfl ?_
        refine te_gr h (f := 910) rfl ?_
        refine te_ga h rfl (fun v9 => ?_)
        refine te_ga h rfl (fun v10 => ?_)
        refine te_ci (e_X9_in h) (fun v11 V12 => ?_)
        refine te_if ?_ ?_
        · refine te_gr h (f := 957) rfl ?_
          refine te_gr h (f := 910) rfl ?_
          refine te_ga h rfl (fun v15 => ?_)
          refine te_ga h rfl (fun v16 => ?_)
          exact te_some rfl
        · exact (e_X9_message_47 h)
noncomputable def t_X9_point_31 (t0 : Int) (V : zW) : Option (Int × zW) :=
  some (t0, V)
theorem e_X9_point_31 {σ : zM} {m : Nat} (h : tOK m σ) {t0 : Int} {V : zW} : tR (tfi σ m) (f_X9_point_31 t0 (tw σ m V)) (t_X9_point_31 t0 V) := by
  unfold f_X9_point_31 t_X9_point_31
  exact te_some rfl
noncomputable def t_X9_point_30 (V : zW) : Option (Int × zW) :=
  t_X9_point_31 (-1) V
theorem e_X9_point_30 {σ : zM} {m : Nat} (h : tOK m σ) {V : zW} : tR (tfi σ m) (f_X9_point_30  (tw σ m V)) (t_X9_point_30  V) := by
  unfold f_X9_point_30 t_X9_point_30
  exact (e_X9_point_31 h)
noncomputable def t_X9_point (x1 : Int) (V : zW) : Option (Int × zW) :=
  tci (t_X9_stood V) fun v1 V2 =>
  if v1 = 0 then
    t_X9_point_30 V2
  else
    zlet (V2.1 930) fun v3 =>
    tci (t_X9_in x1 0 (zsub v3 1) V2) fun v4 V5 =>
    if v4 = 0 then
      t_X9_point_30 V5
    else
      (tga V5 958 x1).bind fun v7 =>
      t_X9_point_31 v7 V5
theorem e_X9_point {σ : zM} {m : Nat} (h : tOK m σ) {x1 : Int} {V : zW} : tR (tfi σ m) (f_X9_point (m : Int) x1 (tw σ m V)) (t_X9_point x1 V) := by
  unfold f_X9_point t_X9_point
  refine te_is h ?_
  refine te_ci (e_X9_stood h) (fun v1 V2 => ?_)
  refine te_if ?_ ?_
  · exact (e_X9_point_30 h)
  · refine te_gs h rfl (fun v3 => ?_)
    refine te_ci (e_X9_in h) (fun v4 V5 => ?_)
    refine te_if ?_ ?_
    · exact (e_X9_point_30 h)
    · refine te_gr h (f := 958) rfl ?_
      refine te_ga h rfl (fun v7 => ?_)
      exact (e_X9_point_31 h)
noncomputable def t_X9_holder_15 (t0 : Int) (V : zW) : Option (Int × zW) :=
  some (t0, V)
theorem e_X9_holder_15 {σ : zM} {m : Nat} (h : tOK m σ) {t0 : Int} {V : zW} : tR (tfi σ m) (f_X9_holder_15 t0 (tw σ m V)) (t_X9_holder_15 t0 V) := by
  unfold f_X9_holder_15 t_X9_holder_15
  exact te_some rfl
noncomputable def t_X9_holder (V : zW) : Option (Int × zW) :=
  tci (t_X9_stood V) fun v1 V2 =>
  if v1 = 0 then
    t_X9_holder_15 (-1) V2
  else
    zlet (V2.1 959) fun v3 =>
    t_X9_holder_15 v3 V2
theorem e_X9_holder {σ : zM} {m : Nat} (h : tOK m σ) {V : zW} : tR (tfi σ m) (f_X9_holder (m : Int) (tw σ m V)) (t_X9_holder  V) := by
  unfold f_X9_holder t_X9_holder
  refine te_is h ?_
  refine te_ci (e_X9_stood h) (fun v1 V2 => ?_)
  refine te_if ?_ ?_
  · exact (e_X9_holder_15 h)
  · refine te_gs h rfl (fun v3 => ?_)
    exact (e_X9_holder_15 h)
noncomputable def t_X9_truth_220 (x2 : Int) (V : zW) : Option (Int × zW) :=
  (tga V 983 0).bind fun v2 =>
  tci (t_X9_isTrue v2 x2 V) fun v3 V4 =>
  zgd (z01 v3) <|
  some (v3, V4)
theorem e_X9_truth_220 {σ : zM} {m : Nat} (h : tOK m σ) {x2 : Int} {V : zW} : tR (tfi σ m) (f_X9_truth_220 (m : Int) x2 (tw σ m V)) (t_X9_truth_220 x2 V) := by
  unfold f_X9_truth_220 t_X9_truth_220
  refine te_gr h (f := 983) rfl ?_
  refine te_ga h rfl (fun v2 => ?_)
  refine te_is h ?_
  refine te_ci (e_X9_isTrue h) (fun v3 V4 => ?_)
  refine te_gd ?_
  exact te_some rfl
noncomputable def t_X9_truth_198_b (x2 x3 : Int) (V : zW) : Option ((Int × Int × zW) ⊕ (Int × zW)) :=
  if x3 < 0 then
    (t_X9_truth_220 x2 V).map (fun r => (.inr r))
  else
    (tga V 983 x3).bind fun v2 =>
    tci (t_X9_truthAt v2 x2 V) fun v3 V4 =>
    zlet (zadd x3 (-1)) fun y5 =>
    some (.inl (v3, y5, V4))
theorem e_X9_truth_198_b {σ : zM} {m : Nat} (h : tOK m σ) {x2 x3 : Int} {V : zW} : tR (Sum.map (fun s => (s.1, s.2.1, tw σ m s.2.2)) (tfi σ m)) (f_X9_truth_198_b (m : Int) x2 x3 (tw σ m V)) (t_X9_truth_198_b x2 x3 V) := by
  unfold f_X9_truth_198_b t_X9_truth_198_b
  refine te_if ?_ ?_
  · exact te_map (e_X9_truth_220 h) (fun r => rfl)
  · refine te_gr h (f := 983) rfl ?_
    refine te_ga h rfl (fun v2 => ?_)
    refine te_is h ?_
    refine te_ci (e_X9_truthAt h) (fun v3 V4 => ?_)
    refine te_let (fun y5 => ?_)
    exact te_some rfl
noncomputable def t_X9_truth_198 (x2 x3 : Int) (V : zW) : Option (Int × zW) :=
  zloop (fun s : Int × Int × zW => t_X9_truth_198_b s.1 s.2.1 s.2.2) (x2, x3, V)
theorem e_X9_truth_198 {σ : zM} {m : Nat} (h : tOK m σ) {x2 x3 : Int} {V : zW} : tR (tfi σ m) (f_X9_truth_198 (m : Int) x2 x3 (tw σ m V)) (t_X9_truth_198 x2 x3 V) := by
  unfold f_X9_truth_198 t_X9_truth_198
  refine te_loop (φ := (fun s => (s.1, s.2.1, tw σ m s.2.2))) (s := (x2, x3, V)) (fun s => ?_)
  exact e_X9_truth_198_b h
noncomputable def t_X9_truth_194 (x1 x2 : Int) (V : zW) : Option (Int × zW) :=
  zlet ((zsub x1 1)) fun y1 =>
  t_X9_truth_198 x2 y1 V
theorem e_X9_truth_194 {σ : zM} {m : Nat} (h : tOK m σ) {x1 x2 : Int} {V : zW} : tR (tfi σ m) (f_X9_truth_194 (m : Int) x1 x2 (tw σ m V)) (t_X9_truth_194 x1 x2 V) := by
  unfold f_X9_truth_194 t_X9_truth_194
  refine te_let (fun y1 => ?_)
  exact (e_X9_truth_198 h)
noncomputable def t_X9_truth_188 (x1 x2 x3 : Int) (V : zW) : Option ((Int × Int × zW) ⊕ (Int × zW)) :=
  zlet (zadd x3 1) fun y1 =>
  some (.inl (x2, y1, V))
theorem e_X9_truth_188 {σ : zM} {m : Nat} (h : tOK m σ) {x1 x2 x3 : Int} {V : zW} : tR (Sum.map (fun s => (s.1, s.2.1, tw σ m s.2.2)) (tfi σ m)) (f_X9_truth_188 (m : Int) x1 x2 x3 (tw σ m V)) (t_X9_truth_188 x1 x2 x3 V) := by
  unfold f_X9_truth_188 t_X9_truth_188
  refine te_let (fun y1 => ?_)
  exact te_some rfl
noncomputable def t_X9_truth_182 (x1 x2 x3 x5 : Int) (V : zW) : Option ((Int × Int × zW) ⊕ ((Int × Int × zW) ⊕ (Int × zW))) :=
  zlet (zadd x5 1) fun y1 =>
  some (.inl (x2, y1, V))
theorem e_X9_truth_182 {σ : zM} {m : Nat} (h : tOK m σ) {x1 x2 x3 x5 : Int} {V : zW} : tR (Sum.map (fun s => (s.1, s.2.1, tw σ m s.2.2)) (Sum.map (fun s => (s.1, s.2.1, tw σ m s.2.2)) (tfi σ m))) (f_X9_truth_182 (m : Int) x1 x2 x3 x5 (tw σ m V)) (t_X9_truth_182 x1 x2 x3 x5 V) := by
  unfold f_X9_truth_182 t_X9_truth_182
  refine te_let (fun y1 => ?_)
  exact te_some rfl
noncomputable def t_X9_truth_157_b (x1 x2 x3 x5 x6 : Int) (V : zW) : Option ((Int × Int × zW) ⊕ ((Int × Int × zW) ⊕ ((Int × Int × zW) ⊕ (Int × zW)))) :=
  if x6 < x1 then
    (t_X9_truth_182 x1 x2 x3 x5 V).map (fun r => (.inr r))
  else
    (tga V 983 x6).bind fun v2 =>
    tci (t_X9_truthAt v2 x2 V) fun v3 V4 =>
    zlet (zadd x6 (-1)) fun y5 =>
    some (.inl (v3, y5, V4))
theorem e_X9_truth_157_b {σ : zM} {m : Nat} (h : tOK m σ) {x1 x2 x3 x5 x6 : Int} {V : zW} : tR (Sum.map (fun s => (s.1, s.2.1, tw σ m s.2.2)) (Sum.map (fun s => (s.1, s.2.1, tw σ m s.2.2)) (Sum.map (fun s => (s.1, s.2.1, tw σ m s.2.2)) (tfi σ m)))) (f_X9_truth_157_b (m : Int) x1 x2 x3 x5 x6 (tw σ m V)) (t_X9_truth_157_b x1 x2 x3 x5 x6 V) := by
  unfold f_X9_truth_157_b t_X9_truth_157_b
  refine te_if ?_ ?_
  · exact te_map (e_X9_truth_182 h) (fun r => rfl)
  · refine te_gr h (f := 983) rfl ?_
    refine te_ga h rfl (fun v2 => ?_)
    refine te_is h ?_
    refine te_ci (e_X9_truthAt h) (fun v3 V4 => ?_)
    refine te_let (fun y5 => ?_)
    exact te_some rfl
noncomputable def t_X9_truth_157 (x1 x2 x3 x5 x6 : Int) (V : zW) : Option ((Int × Int × zW) ⊕ ((Int × Int × zW) ⊕ (Int × zW))) :=
  zloop (fun s : Int × Int × zW => t_X9_truth_157_b x1 s.1 x3 x5 s.2.1 s.2.2) (x2, x6, V)
theorem e_X9_truth_157 {σ : zM} {m : Nat} (h : tOK m σ) {x1 x2 x3 x5 x6 : Int} {V : zW} : tR (Sum.map (fun s => (s.1, s.2.1, tw σ m s.2.2)) (Sum.map (fun s => (s.1, s.2.1, tw σ m s.2.2)) (tfi σ m))) (f_X9_truth_157 (m : Int) x1 x2 x3 x5 x6 (tw σ m V)) (t_X9_truth_157 x1 x2 x3 x5 x6 V) := by
  unfold f_X9_truth_157 t_X9_truth_157
  refine te_loop (φ := (fun s => (s.1, s.2.1, tw σ m s.2.2))) (s := (x2, x6, V)) (fun s => ?_)
  exact e_X9_truth_157_b h
noncomputable def t_X9_truth_143_b (x1 x2 x3 x5 : Int) (V : zW) : Option ((Int × Int × zW) ⊕ ((Int × Int × zW) ⊕ (Int × zW))) :=
  if 2 ≤ x5 then
    (t_X9_truth_188 x1 x2 x3 V).map (fun r => (.inr r))
  else
    zlet (V.1 982) fun v1 =>
    zlet ((zsub v1 1)) fun y2 =>
    t_X9_truth_157 x1 x2 x3 x5 y2 V
theorem e_X9_truth_143_b {σ : zM} {m : Nat} (h : tOK m σ) {x1 x2 x3 x5 : Int} {V : zW} : tR (Sum.map (fun s => (s.1, s.2.1, tw σ m s.2.2)) (Sum.map (fun s => (s.1, s.2.1, tw σ m s.2.2)) (tfi σ m))) (f_X9_truth_143_b (m : Int) x1 x2 x3 x5 (tw σ m V)) (t_X9_truth_143_b x1 x2 x3 x5 V) := by
  unfold f_X9_truth_143_b t_X9_truth_143_b
  refine te_if ?_ ?_
  · exact te_map (e_X9_truth_188 h) (fun r => rfl)
  · refine te_gs h rfl (fun v1 => ?_)
    refine te_let (fun y2 => ?_)
    exact (e_X9_truth_157 h)
noncomputable def t_X9_truth_143 (x1 x2 x3 x5 : Int) (V : zW) : Option ((Int × Int × zW) ⊕ (Int × zW)) :=
  zloop (fun s : Int × Int × zW => t_X9_truth_143_b x1 s.1 x3 s.2.1 s.2.2) (x2, x5, V)
theorem e_X9_truth_143 {σ : zM} {m : Nat} (h : tOK m σ) {x1 x2 x3 x5 : Int} {V : zW} : tR (Sum.map (fun s => (s.1, s.2.1, tw σ m s.2.2)) (tfi σ m)) (f_X9_truth_143 (m : Int) x1 x2 x3 x5 (tw σ m V)) (t_X9_truth_143 x1 x2 x3 x5 V) := by
  unfold f_X9_truth_143 t_X9_truth_143
  refine te_loop (φ := (fun s => (s.1, s.2.1, tw σ m s.2.2))) (s := (x2, x5, V)) (fun s => ?_)
  exact e_X9_truth_143_b h
noncomputable def t_X9_truth_139 (x1 x3 t0 : Int) (V : zW) : Option ((Int × Int × zW) ⊕ (Int × zW)) :=
  t_X9_truth_143 x1 t0 x3 0 V
theorem e_X9_truth_139 {σ : zM} {m : Nat} (h : tOK m σ) {x1 x3 t0 : Int} {V : zW} : tR (Sum.map (fun s => (s.1, s.2.1, tw σ m s.2.2)) (tfi σ m)) (f_X9_truth_139 (m : Int) x1 x3 t0 (tw σ m V)) (t_X9_truth_139 x1 x3 t0 V) := by
  unfold f_X9_truth_139 t_X9_truth_139
  exact (e_X9_truth_143 h)
noncomputable def t_X9_truth_117 (x1 x2 x3 t0 : Int) (V : zW) : Option ((Int × Int × zW) ⊕ (Int × zW)) :=
  if t0 = 0 then
    t_X9_truth_139 x1 x3 (zor x2 (zshl 1 x3)) V
  else
    t_X9_truth_139 x1 x3 (zand x2 (zxor (zshl 1 x3) (-1))) V
theorem e_X9_truth_117 {σ : zM} {m : Nat} (h : tOK m σ) {x1 x2 x3 t0 : Int} {V : zW} : tR (Sum.map (fun s => (s.1, s.2.1, tw σ m s.2.2)) (tfi σ m)) (f_X9_truth_117 (m : Int) x1 x2 x3 t0 (tw σ m V)) (t_X9_truth_117 x1 x2 x3 t0 V) := by
  unfold f_X9_truth_117 t_X9_truth_117
  refine te_if ?_ ?_
  · exact (e_X9_truth_139 h)
  · exact (e_X9_truth_139 h)
noncomputable def t_X9_truth_112 (x1 x2 x3 : Int) (V : zW) : Option ((Int × Int × zW) ⊕ (Int × zW)) :=
  t_X9_truth_117 x1 x2 x3 1 V
theorem e_X9_truth_112 {σ : zM} {m : Nat} (h : tOK m σ) {x1 x2 x3 : Int} {V : zW} : tR (Sum.map (fun s => (s.1, s.2.1, tw σ m s.2.2)) (tfi σ m)) (f_X9_truth_112 (m : Int) x1 x2 x3 (tw σ m V)) (t_X9_truth_112 x1 x2 x3 V) := by
  unfold f_X9_truth_112 t_X9_truth_112
  exact (e_X9_truth_117 h)
noncomputable def t_X9_truth_72_b (x1 x2 x3 : Int) (V : zW) : Option ((Int × Int × zW) ⊕ (Int × zW)) :=
  zlet (V.1 964) fun v1 =>
  if v1 ≤ x3 then
    (t_X9_truth_194 x1 x2 V).map (fun r => (.inr r))
  else
    (tga V 968 x3).bind fun v4 =>
    (tga V 963 v4).bind fun v5 =>
    if v5 = 12 then
      t_X9_truth_112 x1 x2 x3 V
    else
      (tga V 968 x3).bind fun v8 =>
      (tga V 963 v8).bind fun v9 =>
      if v9 ≠ 15 then
        t_X9_truth_117 x1 x2 x3 0 V
      else
        t_X9_truth_112 x1 x2 x3 V
theorem e_X9_truth_72_b {σ : zM} {m : Nat} (h : tOK m σ) {x1 x2 x3 : Int} {V : zW} : tR (Sum.map (fun s => (s.1, s.2.1, tw σ m s.2.2)) (tfi σ m)) (f_X9_truth_72_b (m : Int) x1 x2 x3 (tw σ m V)) (t_X9_truth_72_b x1 x2 x3 V) := by
  unfold f_X9_truth_72_b t_X9_truth_72_b
  refine te_gs h rfl (fun v1 => ?_)
  refine te_if ?_ ?_
  · exact te_map (e_X9_truth_194 h) (fun r => rfl)
  · refine te_gr h (f := 963) rfl ?_
    refine te_gr h (f := 968) rfl ?_
    refine te_ga h rfl (fun v4 => ?_)
    refine te_ga h rfl (fun v5 => ?_)
    refine te_if ?_ ?_
    · exact (e_X9_truth_112 h)
    · refine te_gr h (f := 963) rfl ?_
      refine te_gr h (f := 968) rfl ?_
      refine te_ga h rfl (fun v8 => ?_)
      refine te_ga h rfl (fun v9 => ?_)
      refine te_if ?_ ?_
      · exact (e_X9_truth_117 h)
      · exact (e_X9_truth_112 h)
noncomputable def t_X9_truth_72 (x1 x2 x3 : Int) (V : zW) : Option (Int × zW) :=
  zloop (fun s : Int × Int × zW => t_X9_truth_72_b x1 s.1 s.2.1 s.2.2) (x2, x3, V)
theorem e_X9_truth_72 {σ : zM} {m : Nat} (h : tOK m σ) {x1 x2 x3 : Int} {V : zW} : tR (tfi σ m) (f_X9_truth_72 (m : Int) x1 x2 x3 (tw σ m V)) (t_X9_truth_72 x1 x2 x3 V) := by
  unfold f_X9_truth_72 t_X9_truth_72
  refine te_loop (φ := (fun s => (s.1, s.2.1, tw σ m s.2.2))) (s := (x2, x3, V)) (fun s => ?_)
  exact e_X9_truth_72_b h

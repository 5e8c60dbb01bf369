set_option maxRecDepth 100000
noncomputable def h_X8_following_117 (μ : cM) : Option cO :=
  some (0, zi (-1), μ)
theorem eh_X8_following_117 {B : Nat} {τ : zM} {μ : cM} (h : cOK B τ μ.2) : hR (hf B) (hp B τ) (f_X8_following_117  (cw B μ)) (h_X8_following_117  μ) := by
  unfold f_X8_following_117 h_X8_following_117
  first | exact hx_some rfl h | exact hx_some rfl trivial
noncomputable def h_X8_following_114 (x1 x2 x3 : Int) (μ : cM) : Option ((cM) ⊕ cO) :=
  some (.inl μ)
theorem eh_X8_following_114 {B : Nat} {τ : zM} {x1 x2 x3 : Int} {μ : cM} (h : cOK B τ μ.2) : hR (Sum.map (cw B) (hf B)) (Sum.elim (fun s : cM => cOK B τ s.2) (hp B τ)) (f_X8_following_114 (cad B 8 0) x1 x2 x3 (cw B μ)) (h_X8_following_114 x1 x2 x3 μ) := by
  unfold f_X8_following_114 h_X8_following_114
  first | exact hx_some rfl h | exact hx_some rfl trivial
noncomputable def h_X8_following_97 (x4 x5 : Int) (μ : cM) : Option cO :=
  (hga μ 217 0 x4).bind fun v3 =>
  some (0, zi (zadd (zmul 8 v3) x5), μ)
theorem eh_X8_following_97 {B : Nat} {τ : zM} {x4 x5 : Int} {μ : cM} (h : cOK B τ μ.2) : hR (hf B) (hp B τ) (f_X8_following_97 (cad B 8 0) x4 x5 (cw B μ)) (h_X8_following_97 x4 x5 μ) := by
  unfold f_X8_following_97 h_X8_following_97
  refine he_gr h (f := 800) (c := 8) (o := 0) ⟨by decide, by decide⟩ rfl ?_
  refine he_gA h (f := 217) (c := 2) (o := 0) ⟨rfl, by decide⟩ rfl ?_
  refine he_ga h (f := 217) (o := 0) ⟨⟨rfl, by decide, by decide⟩, rfl⟩ (fun v3 => ?_)
  first | exact hx_some rfl h | exact hx_some rfl trivial
noncomputable def h_X8_following_17_b (x1 x2 x3 : Int) (μ : cM) : Option ((cM) ⊕ cO) :=
  (hga μ 809 0 x1).bind fun v2 =>
  if x3 ≤ v2 then
    (h_X8_following_117 μ).map (fun r => (.inr r))
  else
    (hga μ 215 0 x2).bind fun v5 =>
    (hga μ 809 0 x1).bind fun v7 =>
    zlet ((zadd v5 (zdiv v7 8))) fun y8 =>
    (hga μ 809 0 x1).bind fun v10 =>
    zlet ((zrem v10 8)) fun y11 =>
    (hga μ 809 0 x1).bind fun v13 =>
    (hpa μ 809 0 x1 (zadd v13 1)).bind fun μ14 =>
    hci (h_X8_kinds μ14) fun v15 μ16 =>
    if v15 ≤ y11 then
      h_X8_following_114 x1 x2 x3 μ16
    else
      (hga μ16 803 0 (zadd (zmul 8 x2) y11)).bind fun v18 =>
      if v18 ≠ (zrem x1 8) then
        h_X8_following_114 x1 x2 x3 μ16
      else
        (h_X8_following_97 y8 y11 μ16).map (fun r => (.inr r))
theorem eh_X8_following_17_b {B : Nat} {τ : zM} {x1 x2 x3 : Int} {μ : cM} (h : cOK B τ μ.2) : hR (Sum.map (cw B) (hf B)) (Sum.elim (fun s : cM => cOK B τ s.2) (hp B τ)) (f_X8_following_17_b (cad B 8 0) x1 x2 x3 (cw B μ)) (h_X8_following_17_b x1 x2 x3 μ) := by
  unfold f_X8_following_17_b h_X8_following_17_b
  refine he_gA h (f := 809) (c := 8) (o := 0) ⟨rfl, by decide⟩ rfl ?_
  refine he_ga h (f := 809) (o := 0) ⟨⟨rfl, by decide, by decide⟩, rfl⟩ (fun v2 => ?_)
  refine hx_if ?_ ?_
  · exact hx_map (eh_X8_following_117 h) (fun r => rfl) (fun r q => q)
  · refine he_gr h (f := 800) (c := 8) (o := 0) ⟨by decide, by decide⟩ rfl ?_
    refine he_gA h (f := 215) (c := 2) (o := 0) ⟨rfl, by decide⟩ rfl ?_
    refine he_ga h (f := 215) (o := 0) ⟨⟨rfl, by decide, by decide⟩, rfl⟩ (fun v5 => ?_)
    refine he_gA h (f := 809) (c := 8) (o := 0) ⟨rfl, by decide⟩ rfl ?_
    refine he_ga h (f := 809) (o := 0) ⟨⟨rfl, by decide, by decide⟩, rfl⟩ (fun v7 => ?_)
    refine hx_let (fun y8 => ?_)
    refine he_gA h (f := 809) (c := 8) (o := 0) ⟨rfl, by decide⟩ rfl ?_
    refine he_ga h (f := 809) (o := 0) ⟨⟨rfl, by decide, by decide⟩, rfl⟩ (fun v10 => ?_)
    refine hx_let (fun y11 => ?_)
    refine he_gA h (f := 809) (c := 8) (o := 0) ⟨rfl, by decide⟩ rfl ?_
    refine he_ga h (f := 809) (o := 0) ⟨⟨rfl, by decide, by decide⟩, rfl⟩ (fun v13 => ?_)
    refine he_pa h (f := 809) (o := 0) ⟨⟨rfl, by decide, by decide⟩, rfl⟩ (fun μ14 h => ?_)
    refine hx_is h ⟨rfl, by decide, by decide⟩ ?_
    refine hx_ci (eh_X8_kinds h) (fun v15 μ16 h => ?_)
    refine hx_if ?_ ?_
    · exact (eh_X8_following_114 h)
    · refine he_gA h (f := 803) (c := 8) (o := 0) ⟨rfl, by decide⟩ rfl ?_
      refine he_ga h (f := 803) (o := 0) ⟨⟨rfl, by decide, by decide⟩, rfl⟩ (fun v18 => ?_)
      refine hx_if ?_ ?_
      · exact (eh_X8_following_114 h)
      · exact hx_map (eh_X8_following_97 h) (fun r => rfl) (fun r q => q)
noncomputable def h_X8_following_17 (x1 x2 x3 : Int) (μ : cM) : Option cO :=
  zloop (fun s : cM => h_X8_following_17_b x1 x2 x3 s) μ
theorem eh_X8_following_17 {B : Nat} {τ : zM} {x1 x2 x3 : Int} {μ : cM} (h : cOK B τ μ.2) : hR (hf B) (hp B τ) (f_X8_following_17 (cad B 8 0) x1 x2 x3 (cw B μ)) (h_X8_following_17 x1 x2 x3 μ) := by
  unfold f_X8_following_17 h_X8_following_17
  refine hx_loop (φ := (cw B)) (Ps := (fun s : cM => cOK B τ s.2)) (s := μ) h (fun s hs => ?_)
  exact eh_X8_following_17_b hs
noncomputable def h_X8_following (x1 : Int) (μ : cM) : Option cO :=
  zlet ((zdiv x1 8)) fun y1 =>
  hci (h_X2_stepsOf y1 μ) fun v3 μ4 =>
  zlet ((zmul 8 v3)) fun y5 =>
  h_X8_following_17 x1 y1 y5 μ4
theorem eh_X8_following {B : Nat} {τ : zM} {x1 : Int} {μ : cM} (h : cOK B τ μ.2) : hR (hf B) (hp B τ) (f_X8_following (cad B 8 0) x1 (cw B μ)) (h_X8_following x1 μ) := by
  unfold f_X8_following h_X8_following
  refine hx_let (fun y1 => ?_)
  refine he_gr h (f := 800) (c := 8) (o := 0) ⟨by decide, by decide⟩ rfl ?_
  refine hx_is h ⟨rfl, by decide, by decide⟩ ?_
  refine hx_ci (eh_X2_stepsOf h) (fun v3 μ4 h => ?_)
  refine hx_let (fun y5 => ?_)
  exact (eh_X8_following_17 h)
noncomputable def h_X8_loops_77 (x3 : Int) (μ : cM) : Option cO :=
  zgd (z01 x3) <|
  some (0, zi x3, μ)
theorem eh_X8_loops_77 {B : Nat} {τ : zM} {x3 : Int} {μ : cM} (h : cOK B τ μ.2) : hR (hf B) (hp B τ) (f_X8_loops_77 x3 (cw B μ)) (h_X8_loops_77 x3 μ) := by
  unfold f_X8_loops_77 h_X8_loops_77
  refine hx_gd ?_
  first | exact hx_some rfl h | exact hx_some rfl trivial
noncomputable def h_X8_loops_70 (x1 x2 x4 t0 : Int) (μ : cM) : Option ((Int × Int) ⊕ cO) :=
  zlet (zadd x4 1) fun y1 =>
  some (.inl (t0, y1))
theorem eh_X8_loops_70 {B : Nat} {τ : zM} {x1 x2 x4 t0 : Int} {μ : cM} (h : cOK B τ μ.2) : hR (Sum.map id (hf B)) (Sum.elim (fun _ : Int × Int => True) (hp B τ)) (f_X8_loops_70 (cad B 8 0) x1 x2 x4 t0 (cw B μ)) (h_X8_loops_70 x1 x2 x4 t0 μ) := by
  unfold f_X8_loops_70 h_X8_loops_70
  refine hx_let (fun y1 => ?_)
  first | exact hx_some rfl h | exact hx_some rfl trivial
noncomputable def h_X8_loops_65 (x1 x2 x4 : Int) (μ : cM) : Option ((Int × Int) ⊕ cO) :=
  h_X8_loops_70 x1 x2 x4 1 μ
theorem eh_X8_loops_65 {B : Nat} {τ : zM} {x1 x2 x4 : Int} {μ : cM} (h : cOK B τ μ.2) : hR (Sum.map id (hf B)) (Sum.elim (fun _ : Int × Int => True) (hp B τ)) (f_X8_loops_65 (cad B 8 0) x1 x2 x4 (cw B μ)) (h_X8_loops_65 x1 x2 x4 μ) := by
  unfold f_X8_loops_65 h_X8_loops_65
  exact (eh_X8_loops_70 h)
noncomputable def h_X8_loops_69 (x1 x2 x4 : Int) (μ : cM) : Option ((Int × Int) ⊕ cO) :=
  h_X8_loops_70 x1 x2 x4 0 μ
theorem eh_X8_loops_69 {B : Nat} {τ : zM} {x1 x2 x4 : Int} {μ : cM} (h : cOK B τ μ.2) : hR (Sum.map id (hf B)) (Sum.elim (fun _ : Int × Int => True) (hp B τ)) (f_X8_loops_69 (cad B 8 0) x1 x2 x4 (cw B μ)) (h_X8_loops_69 x1 x2 x4 μ) := by
  unfold f_X8_loops_69 h_X8_loops_69
  exact (eh_X8_loops_70 h)
noncomputable def h_X8_loops_18_b (x1 x2 x3 x4 : Int) (μ : cM) : Option ((Int × Int) ⊕ cO) :=
  (hga μ 215 0 (zadd x2 1)).bind fun v3 =>
  if v3 ≤ x4 then
    (h_X8_loops_77 x3 μ).map (fun r => (.inr r))
  else
    if x3 ≠ 0 then
      h_X8_loops_65 x1 x2 x4 μ
    else
      (hga μ 217 0 x4).bind fun v6 =>
      if v6 ≠ x2 then
        h_X8_loops_69 x1 x2 x4 μ
      else
        (hga μ 803 0 x1).bind fun v8 =>
        if v8 ≠ (zrem x1 8) then
          h_X8_loops_69 x1 x2 x4 μ
        else
          h_X8_loops_65 x1 x2 x4 μ
theorem eh_X8_loops_18_b {B : Nat} {τ : zM} {x1 x2 x3 x4 : Int} {μ : cM} (h : cOK B τ μ.2) : hR (Sum.map id (hf B)) (Sum.elim (fun _ : Int × Int => True) (hp B τ)) (f_X8_loops_18_b (cad B 8 0) x1 x2 x3 x4 (cw B μ)) (h_X8_loops_18_b x1 x2 x3 x4 μ) := by
  unfold f_X8_loops_18_b h_X8_loops_18_b
  refine he_gr h (f := 800) (c := 8) (o := 0) ⟨by decide, by decide⟩ rfl ?_
  refine he_gA h (f := 215) (c := 2) (o := 0) ⟨rfl, by decide⟩ rfl ?_
  refine he_ga h (f := 215) (o := 0) ⟨⟨rfl, by decide, by decide⟩, rfl⟩ (fun v3 => ?_)
  refine hx_if ?_ ?_
  · exact hx_map (eh_X8_loops_77 h) (fun r => rfl) (fun r q => q)
  · refine hx_if ?_ ?_
    · exact (eh_X8_loops_65 h)
    · refine he_gr h (f := 800) (c := 8) (o := 0) ⟨by decide, by decide⟩ rfl ?_
      refine he_gA h (f := 217) (c := 2) (o := 0) ⟨rfl, by decide⟩ rfl ?_
      refine he_ga h (f := 217) (o := 0) ⟨⟨rfl, by decide, by decide⟩, rfl⟩ (fun v6 => ?_)
      refine hx_if ?_ ?_
      · exact (eh_X8_loops_69 h)
      · refine he_gA h (f := 803) (c := 8) (o := 0) ⟨rfl, by decide⟩ rfl ?_
        refine he_ga h (f := 803) (o := 0) ⟨⟨rfl, by decide, by decide⟩, rfl⟩ (fun v8 => ?_)
        refine hx_if ?_ ?_
        · exact (eh_X8_loops_69 h)
        · exact (eh_X8_loops_65 h)
noncomputable def h_X8_loops_18 (x1 x2 x3 x4 : Int) (μ : cM) : Option cO :=
  zloop (fun s : Int × Int => h_X8_loops_18_b x1 x2 s.1 s.2 μ) (x3, x4)
theorem eh_X8_loops_18 {B : Nat} {τ : zM} {x1 x2 x3 x4 : Int} {μ : cM} (h : cOK B τ μ.2) : hR (hf B) (hp B τ) (f_X8_loops_18 (cad B 8 0) x1 x2 x3 x4 (cw B μ)) (h_X8_loops_18 x1 x2 x3 x4 μ) := by
  unfold f_X8_loops_18 h_X8_loops_18
  refine hx_loop (φ := id) (Ps := (fun _ : Int × Int => True)) (s := (x3, x4)) trivial (fun s hs => ?_)
  exact eh_X8_loops_18_b h
noncomputable def h_X8_loops (x1 : Int) (μ : cM) : Option cO :=
  zlet ((zdiv x1 8)) fun y1 =>
  (hga μ 215 0 y1).bind fun v4 =>
  h_X8_loops_18 x1 y1 0 v4 μ
theorem eh_X8_loops {B : Nat} {τ : zM} {x1 : Int} {μ : cM} (h : cOK B τ μ.2) : hR (hf B) (hp B τ) (f_X8_loops (cad B 8 0) x1 (cw B μ)) (h_X8_loops x1 μ) := by
  unfold f_X8_loops h_X8_loops
  refine hx_let (fun y1 => ?_)
  refine he_gr h (f := 800) (c := 8) (o := 0) ⟨by decide, by decide⟩ rfl ?_
  refine he_gA h (f := 215) (c := 2) (o := 0) ⟨rfl, by decide⟩ rfl ?_
  refine he_ga h (f := 215) (o := 0) ⟨⟨rfl, by decide, by decide⟩, rfl⟩ (fun v4 => ?_)
  exact (eh_X8_loops_18 h)
noncomputable def h_X8_finish_148 (x2 : Int) (μ : cM) : Option cO :=
  hwl (hS μ 814 0 x2) fun μ1 =>
  some (0, ((3, 0) : zV), μ1)
theorem eh_X8_finish_148 {B : Nat} {τ : zM} {x2 : Int} {μ : cM} (h : cOK B τ μ.2) : hR (hf B) (hp B τ) (f_X8_finish_148 (cad B 8 0) x2 (cw B μ)) (h_X8_finish_148 x2 μ) := by
  unfold f_X8_finish_148 h_X8_finish_148
  refine he_ps h (f := 814) (c := 8) (o := 0) ⟨rfl, by decide, by decide⟩ rfl (fun μ1 h => ?_)
  first | exact hx_some rfl h | exact hx_some rfl trivial
noncomputable def h_X8_finish_141 (x2 x3 x4 x5 t0 t1 : Int) (μ : cM) : Option ((Int × cM) ⊕ cO) :=
  (hpa μ 815 0 t1 t0).bind fun μ1 =>
  zlet (zadd x5 1) fun y2 =>
  some (.inl (y2, μ1))
theorem eh_X8_finish_141 {B : Nat} {τ : zM} {x2 x3 x4 x5 t0 t1 : Int} {μ : cM} (h : cOK B τ μ.2) : hR (Sum.map (fun s => (s.1, cw B s.2)) (hf B)) (Sum.elim (fun s : Int × cM => cOK B τ s.2.2) (hp B τ)) (f_X8_finish_141 (cad B 8 0) x2 x3 x4 x5 t0 t1 (caa B 815 0) (cw B μ)) (h_X8_finish_141 x2 x3 x4 x5 t0 t1 μ) := by
  unfold f_X8_finish_141 h_X8_finish_141
  refine he_pa h (f := 815) (o := 0) ⟨⟨rfl, by decide, by decide⟩, rfl⟩ (fun μ1 h => ?_)
  refine hx_let (fun y2 => ?_)
  first | exact hx_some rfl h | exact hx_some rfl trivial
noncomputable def h_X8_finish_138 (x2 x3 x4 x5 t0 : Int) (μ : cM) : Option ((Int × cM) ⊕ cO) :=
  h_X8_finish_141 x2 x3 x4 x5 30000 t0 μ
theorem eh_X8_finish_138 {B : Nat} {τ : zM} {x2 x3 x4 x5 t0 : Int} {μ : cM} (h : cOK B τ μ.2) : hR (Sum.map (fun s => (s.1, cw B s.2)) (hf B)) (Sum.elim (fun s : Int × cM => cOK B τ s.2.2) (hp B τ)) (f_X8_finish_138 (cad B 8 0) x2 x3 x4 x5 t0 (caa B 815 0) (cw B μ)) (h_X8_finish_138 x2 x3 x4 x5 t0 μ) := by
  unfold f_X8_finish_138 h_X8_finish_138
  exact (eh_X8_finish_141 h)
noncomputable def h_X8_finish_99_b (x2 x3 x4 x5 : Int) (μ : cM) : Option ((Int × cM) ⊕ cO) :=
  zlet (hG μ 814 0) fun v1 =>
  if v1 ≤ x5 then
    (h_X8_finish_148 x2 μ).map (fun r => (.inr r))
  else
    (hga μ 810 0 x5).bind fun v4 =>
    if x4 = 0 then
      h_X8_finish_138 x2 x3 x4 x5 v4 μ
    else
      hci (h_X8_kinds μ) fun v5 μ6 =>
      if x3 ≠ (zsub v5 1) then
        h_X8_finish_138 x2 x3 x4 x5 v4 μ6
      else
        h_X8_finish_141 x2 x3 x4 x5 0 v4 μ6
theorem eh_X8_finish_99_b {B : Nat} {τ : zM} {x2 x3 x4 x5 : Int} {μ : cM} (h : cOK B τ μ.2) : hR (Sum.map (fun s => (s.1, cw B s.2)) (hf B)) (Sum.elim (fun s : Int × cM => cOK B τ s.2.2) (hp B τ)) (f_X8_finish_99_b (cad B 8 0) x2 x3 x4 x5 (cw B μ)) (h_X8_finish_99_b x2 x3 x4 x5 μ) := by
  unfold f_X8_finish_99_b h_X8_finish_99_b
  refine he_gs h (f := 814) (c := 8) (o := 0) ⟨rfl, by decide, by decide⟩ rfl (fun v1 => ?_)
  refine hx_if ?_ ?_
  · exact hx_map (eh_X8_finish_148 h) (fun r => rfl) (fun r q => q)
  · refine he_gA h (f := 815) (c := 8) (o := 0) ⟨rfl, by decide⟩ rfl ?_
    refine he_gA h (f := 810) (c := 8) (o := 0) ⟨rfl, by decide⟩ rfl ?_
    refine he_ga h (f := 810) (o := 0) ⟨⟨rfl, by decide, by decide⟩, rfl⟩ (fun v4 => ?_)
    refine hx_if ?_ ?_
    · exact (eh_X8_finish_138 h)
    · refine hx_is h ⟨rfl, by decide, by decide⟩ ?_
      refine hx_ci (eh_X8_kinds h) (fun v5 μ6 h => ?_)
      refine hx_if ?_ ?_
      · exact (eh_X8_finish_138 h)
      · exact (eh_X8_finish_141 h)
noncomputable def h_X8_finish_99 (x2 x3 x4 x5 : Int) (μ : cM) : Option cO :=
  zloop (fun s : Int × cM => h_X8_finish_99_b x2 x3 x4 s.1 s.2) (x5, μ)
theorem eh_X8_finish_99 {B : Nat} {τ : zM} {x2 x3 x4 x5 : Int} {μ : cM} (h : cOK B τ μ.2) : hR (hf B) (hp B τ) (f_X8_finish_99 (cad B 8 0) x2 x3 x4 x5 (cw B μ)) (h_X8_finish_99 x2 x3 x4 x5 μ) := by
  unfold f_X8_finish_99 h_X8_finish_99
  refine hx_loop (φ := (fun s => (s.1, cw B s.2))) (Ps := (fun s : Int × cM => cOK B τ s.2.2)) (s := (x5, μ)) h (fun s hs => ?_)
  exact eh_X8_finish_99_b hs
noncomputable def h_X8_finish_94 (x2 x3 t0 : Int) (μ : cM) : Option cO :=
  h_X8_finish_99 x2 x3 t0 x2 μ
theorem eh_X8_finish_94 {B : Nat} {τ : zM} {x2 x3 t0 : Int} {μ : cM} (h : cOK B τ μ.2) : hR (hf B) (hp B τ) (f_X8_finish_94 (cad B 8 0) x2 x3 t0 (cw B μ)) (h_X8_finish_94 x2 x3 t0 μ) := by
  unfold f_X8_finish_94 h_X8_finish_94
  exact (eh_X8_finish_99 h)
noncomputable def h_X8_finish_89 (x2 x3 : Int) (μ : cM) : Option cO :=
  h_X8_finish_94 x2 x3 1 μ
theorem eh_X8_finish_89 {B : Nat} {τ : zM} {x2 x3 : Int} {μ : cM} (h : cOK B τ μ.2) : hR (hf B) (hp B τ) (f_X8_finish_89 (cad B 8 0) x2 x3 (cw B μ)) (h_X8_finish_89 x2 x3 μ) := by
  unfold f_X8_finish_89 h_X8_finish_89
  exact (eh_X8_finish_94 h)
noncomputable def h_X8_finish_71 (x1 x2 x3 : Int) (μ : cM) : Option cO :=
  zlet (hG μ 814 0) fun v1 =>
  if 1 < (zsub v1 x2) then
    h_X8_finish_89 x2 x3 μ
  else
    hci (h_X8_loops x1 μ) fun v2 μ3 =>
    if v2 = 0 then
      h_X8_finish_94 x2 x3 0 μ3
    else
      h_X8_finish_89 x2 x3 μ3
theorem eh_X8_finish_71 {B : Nat} {τ : zM} {x1 x2 x3 : Int} {μ : cM} (h : cOK B τ μ.2) : hR (hf B) (hp B τ) (f_X8_finish_71 (cad B 8 0) x1 x2 x3 (cw B μ)) (h_X8_finish_71 x1 x2 x3 μ) := by
  unfold f_X8_finish_71 h_X8_finish_71
  refine he_gs h (f := 814) (c := 8) (o := 0) ⟨rfl, by decide, by decide⟩ rfl (fun v1 => ?_)
  refine hx_if ?_ ?_
  · exact (eh_X8_finish_89 h)
  · refine hx_is h ⟨rfl, by decide, by decide⟩ ?_
    refine hx_ci (eh_X8_loops h) (fun v2 μ3 h => ?_)
    refine hx_if ?_ ?_
    · exact (eh_X8_finish_94 h)
    · exact (eh_X8_finish_89 h)
noncomputable def h_X8_finish_28_b (x1 x2 x3 x4 : Int) (μ : cM) : Option ((Int × Int × cM) ⊕ cO) :=
  zlet (hG μ 814 0) fun v1 =>
  if v1 ≤ x4 then
    (h_X8_finish_71 x1 x2 x3 μ).map (fun r => (.inr r))
  else
    (hga μ 810 0 x4).bind fun v4 =>
    (hga μ 804 0 v4).bind fun v5 =>
    zlet ((zor x3 v5)) fun y6 =>
    (hga μ 810 0 x4).bind fun v9 =>
    zgd (z01 0) <|
    (hpa μ 812 0 v9 0).bind fun μ10 =>
    zlet (zadd x4 1) fun y11 =>
    some (.inl (y6, y11, μ10))
theorem eh_X8_finish_28_b {B : Nat} {τ : zM} {x1 x2 x3 x4 : Int} {μ : cM} (h : cOK B τ μ.2) : hR (Sum.map (fun s => (s.1, s.2.1, cw B s.2.2)) (hf B)) (Sum.elim (fun s : Int × Int × cM => cOK B τ s.2.2.2) (hp B τ)) (f_X8_finish_28_b (cad B 8 0) x1 x2 x3 x4 (cw B μ)) (h_X8_finish_28_b x1 x2 x3 x4 μ) := by
  unfold f_X8_finish_28_b h_X8_finish_28_b
  refine he_gs h (f := 814) (c := 8) (o := 0) ⟨rfl, by decide, by decide⟩ rfl (fun v1 => ?_)
  refine hx_if ?_ ?_
  · exact hx_map (eh_X8_finish_71 h) (fun r => rfl) (fun r q => q)
  · refine he_gA h (f := 804) (c := 8) (o := 0) ⟨rfl, by decide⟩ rfl ?_
    refine he_gA h (f := 810) (c := 8) (o := 0) ⟨rfl, by decide⟩ rfl ?_
    refine he_ga h (f := 810) (o := 0) ⟨⟨rfl, by decide, by decide⟩, rfl⟩ (fun v4 => ?_)
    refine he_ga h (f := 804) (o := 0) ⟨⟨rfl, by decide, by decide⟩, rfl⟩ (fun v5 => ?_)
    refine hx_let (fun y6 => ?_)
    refine he_gA h (f := 812) (c := 8) (o := 0) ⟨rfl, by decide⟩ rfl ?_
    refine he_gA h (f := 810) (c := 8) (o := 0) ⟨rfl, by decide⟩ rfl ?_
    refine he_ga h (f := 810) (o := 0) ⟨⟨rfl, by decide, by decide⟩, rfl⟩ (fun v9 => ?_)
    refine hx_gd ?_
    refine he_pa h (f := 812) (o := 0) ⟨⟨rfl, by decide, by decide⟩, rfl⟩ (fun μ10 h => ?_)
    refine hx_let (fun y11 => ?_)
    first | exact hx_some rfl h | exact hx_some rfl trivial
noncomputable def h_X8_finish_28 (x1 x2 x3 x4 : Int) (μ : cM) : Option cO :=
  zloop (fun s : Int × Int × cM => h_X8_finish_28_b x1 x2 s.1 s.2.1 s.2.2) (x3, x4, μ)
theorem eh_X8_finish_28 {B : Nat} {τ : zM} {x1 x2 x3 x4 : Int} {μ : cM} (h : cOK B τ μ.2) : hR (hf B) (hp B τ) (f_X8_finish_28 (cad B 8 0) x1 x2 x3 x4 (cw B μ)) (h_X8_finish_28 x1 x2 x3 x4 μ) := by
  unfold f_X8_finish_28 h_X8_finish_28
  refine hx_loop (φ := (fun s => (s.1, s.2.1, cw B s.2.2))) (Ps := (fun s : Int × Int × cM => cOK B τ s.2.2.2)) (s := (x3, x4, μ)) h (fun s hs => ?_)
  exact eh_X8_finish_28_b hs
noncomputable def h_X8_finish_25 (x1 x2 x3 : Int) (μ : cM) : Option cO :=
  h_X8_finish_28 x1 x2 x3 x2 μ
theorem eh_X8_finish_25 {B : Nat} {τ : zM} {x1 x2 x3 : Int} {μ : cM} (h : cOK B τ μ.2) : hR (hf B) (hp B τ) (f_X8_finish_25 (cad B 8 0) x1 x2 x3 (cw B μ)) (h_X8_finish_25 x1 x2 x3 μ) := by
  unfold f_X8_finish_25 h_X8_finish_25
  exact (eh_X8_finish_28 h)
noncomputable def h_X8_finish_9_b (x1 x2 x3 : Int) (μ : cM) : Option ((Int) ⊕ cO) :=
  (hga μ 810 0 x2).bind fun v2 =>
  if v2 = x1 then
    (h_X8_finish_25 x1 x2 x3 μ).map (fun r => (.inr r))
  else
    zlet (zadd x2 (-1)) fun y3 =>
    some (.inl y3)
theorem eh_X8_finish_9_b {B : Nat} {τ : zM} {x1 x2 x3 : Int} {μ : cM} (h : cOK B τ μ.2) : hR (Sum.map id (hf B)) (Sum.elim (fun _ : Int => True) (hp B τ)) (f_X8_finish_9_b (cad B 8 0) x1 x2 x3 (cw B μ)) (h_X8_finish_9_b x1 x2 x3 μ) := by
  unfold f_X8_finish_9_b h_X8_finish_9_b
  refine he_gA h (f := 810) (c := 8) (o := 0) ⟨rfl, by decide⟩ rfl ?_
  refine he_ga h (f := 810) (o := 0) ⟨⟨rfl, by decide, by decide⟩, rfl⟩ (fun v2 => ?_)
  refine hx_if ?_ ?_
  · exact hx_map (eh_X8_finish_25 h) (fun r => rfl) (fun r q => q)
  · refine hx_let (fun y3 => ?_)
    first | exact hx_some rfl h | exact hx_some rfl trivial
noncomputable def h_X8_finish_9 (x1 x2 x3 : Int) (μ : cM) : Option cO :=
  zloop (fun s : Int => h_X8_finish_9_b x1 s x3 μ) x2
theorem eh_X8_finish_9 {B : Nat} {τ : zM} {x1 x2 x3 : Int} {μ : cM} (h : cOK B τ μ.2) : hR (hf B) (hp B τ) (f_X8_finish_9 (cad B 8 0) x1 x2 x3 (cw B μ)) (h_X8_finish_9 x1 x2 x3 μ) := by
  unfold f_X8_finish_9 h_X8_finish_9
  refine hx_loop (φ := id) (Ps := (fun _ : Int => True)) (s := x2) trivial (fun s hs => ?_)
  exact eh_X8_finish_9_b h
noncomputable def h_X8_finish (x1 : Int) (μ : cM) : Option cO :=
  zlet (hG μ 814 0) fun v1 =>
  zlet ((zsub v1 1)) fun y2 =>
  h_X8_finish_9 x1 y2 0 μ
theorem eh_X8_finish {B : Nat} {τ : zM} {x1 : Int} {μ : cM} (h : cOK B τ μ.2) : hR (hf B) (hp B τ) (f_X8_finish (cad B 8 0) x1 (cw B μ)) (h_X8_finish x1 μ) := by
  unfold f_X8_finish h_X8_finish
  refine he_gs h (f := 814) (c := 8) (o := 0) ⟨rfl, by decide, by decide⟩ rfl (fun v1 => ?_)
  refine hx_let (fun y2 => ?_)
  exact (eh_X8_finish_9 h)
noncomputable def h_X8_explore_170 (μ : cM) : Option cO :=
  some (0, ((3, 0) : zV), μ)
theorem eh_X8_explore_170 {B : Nat} {τ : zM} {μ : cM} (h : cOK B τ μ.2) : hR (hf B) (hp B τ) (f_X8_explore_170  (cw B μ)) (h_X8_explore_170  μ) := by
  unfold f_X8_explore_170 h_X8_explore_170
  first | exact hx_some rfl h | exact hx_some rfl trivial
noncomputable def h_X8_explore_167 (x2 : Int) (μ : cM) : Option ((Int × cM) ⊕ cO) :=
  some (.inl (x2, μ))
theorem eh_X8_explore_167 {B : Nat} {τ : zM} {x2 : Int} {μ : cM} (h : cOK B τ μ.2) : hR (Sum.map (fun s => (s.1, cw B s.2)) (hf B)) (Sum.elim (fun s : Int × cM => cOK B τ s.2.2) (hp B τ)) (f_X8_explore_167 (cad B 8 0) x2 (cw B μ)) (h_X8_explore_167 x2 μ) := by
  unfold f_X8_explore_167 h_X8_explore_167
  first | exact hx_some rfl h | exact hx_some rfl trivial
noncomputable def h_X8_explore_129 (x2 x3 : Int) (μ : cM) : Option ((Int × cM) ⊕ cO) :=
  zlet (zadd x2 (-1)) fun y1 =>
  if y1 < 0 then
    h_X8_explore_167 y1 μ
  else
    (hga μ 811 0 y1).bind fun v4 =>
    (hga μ 811 0 y1).bind fun v7 =>
    (hga μ 808 0 v7).bind fun v8 =>
    (hga μ 808 0 x3).bind fun v10 =>
    zlet (if v10 < v8 then v10 else v8) fun y11 =>
    (hpa μ 808 0 v4 y11).bind fun μ12 =>
    h_X8_explore_167 y1 μ12
theorem eh_X8_explore_129 {B : Nat} {τ : zM} {x2 x3 : Int} {μ : cM} (h : cOK B τ μ.2) : hR (Sum.map (fun s => (s.1, cw B s.2)) (hf B)) (Sum.elim (fun s : Int × cM => cOK B τ s.2.2) (hp B τ)) (f_X8_explore_129 (cad B 8 0) x2 x3 (cw B μ)) (h_X8_explore_129 x2 x3 μ) := by
  unfold f_X8_explore_129 h_X8_explore_129
  refine hx_let (fun y1 => ?_)
  refine hx_if ?_ ?_
  · exact (eh_X8_explore_167 h)
  · refine he_gA h (f := 808) (c := 8) (o := 0) ⟨rfl, by decide⟩ rfl ?_
    refine he_gA h (f := 811) (c := 8) (o := 0) ⟨rfl, by decide⟩ rfl ?_
    refine he_ga h (f := 811) (o := 0) ⟨⟨rfl, by decide, by decide⟩, rfl⟩ (fun v4 => ?_)
    refine he_gA h (f := 808) (c := 8) (o := 0) ⟨rfl, by decide⟩ rfl ?_
    refine he_gA h (f := 811) (c := 8) (o := 0) ⟨rfl, by decide⟩ rfl ?_
    refine he_ga h (f := 811) (o := 0) ⟨⟨rfl, by decide, by decide⟩, rfl⟩ (fun v7 => ?_)
    refine he_ga h (f := 808) (o := 0) ⟨⟨rfl, by decide, by decide⟩, rfl⟩ (fun v8 => ?_)
    refine he_gA h (f := 808) (c := 8) (o := 0) ⟨rfl, by decide⟩ rfl ?_
    refine he_ga h (f := 808) (o := 0) ⟨⟨rfl, by decide, by decide⟩, rfl⟩ (fun v10 => ?_)
    refine hx_let (fun y11 => ?_)
    refine he_pa h (f := 808) (o := 0) ⟨⟨rfl, by decide, by decide⟩, rfl⟩ (fun μ12 h => ?_)
    exact (eh_X8_explore_167 h)
noncomputable def h_X8_explore_68 (x2 x3 x4 : Int) (μ : cM) : Option ((Int × cM) ⊕ cO) :=
  if x4 = (-1) then
    (hga μ 808 0 x3).bind fun v2 =>
    (hga μ 807 0 x3).bind fun v4 =>
    if v2 ≠ v4 then
      h_X8_explore_129 x2 x3 μ
    else
      hcv (h_X8_finish x3 μ) fun μ5 =>
      h_X8_explore_129 x2 x3 μ5
  else
    (hga μ 812 0 x4).bind fun v7 =>
    if v7 = 0 then
      h_X8_explore_167 x2 μ
    else
      (hga μ 808 0 x3).bind fun v10 =>
      (hga μ 807 0 x4).bind fun v12 =>
      zlet (if v12 < v10 then v12 else v10) fun y13 =>
      (hpa μ 808 0 x3 y13).bind fun μ14 =>
      h_X8_explore_167 x2 μ14
theorem eh_X8_explore_68 {B : Nat} {τ : zM} {x2 x3 x4 : Int} {μ : cM} (h : cOK B τ μ.2) : hR (Sum.map (fun s => (s.1, cw B s.2)) (hf B)) (Sum.elim (fun s : Int × cM => cOK B τ s.2.2) (hp B τ)) (f_X8_explore_68 (cad B 8 0) x2 x3 x4 (cw B μ)) (h_X8_explore_68 x2 x3 x4 μ) := by
  unfold f_X8_explore_68 h_X8_explore_68
  refine hx_if ?_ ?_
  · refine he_gA h (f := 808) (c := 8) (o := 0) ⟨rfl, by decide⟩ rfl ?_
    refine he_ga h (f := 808) (o := 0) ⟨⟨rfl, by decide, by decide⟩, rfl⟩ (fun v2 => ?_)
    refine he_gA h (f := 807) (c := 8) (o := 0) ⟨rfl, by decide⟩ rfl ?_
    refine he_ga h (f := 807) (o := 0) ⟨⟨rfl, by decide, by decide⟩, rfl⟩ (fun v4 => ?_)
    refine hx_if ?_ ?_
    · exact (eh_X8_explore_129 h)
    · refine hx_is h ⟨rfl, by decide, by decide⟩ ?_
      refine hx_cv (eh_X8_finish h) (fun μ5 h => ?_)
      exact (eh_X8_explore_129 h)
  · refine he_gA h (f := 812) (c := 8) (o := 0) ⟨rfl, by decide⟩ rfl ?_
    refine he_ga h (f := 812) (o := 0) ⟨⟨rfl, by decide, by decide⟩, rfl⟩ (fun v7 => ?_)
    refine hx_if ?_ ?_
    · exact (eh_X8_explore_167 h)
    · refine he_gA h (f := 808) (c := 8) (o := 0) ⟨rfl, by decide⟩ rfl ?_
      refine he_gA h (f := 808) (c := 8) (o := 0) ⟨rfl, by decide⟩ rfl ?_
      refine he_ga h (f := 808) (o := 0) ⟨⟨rfl, by decide, by decide⟩, rfl⟩ (fun v10 => ?_)
      refine he_gA h (f := 807) (c := 8) (o := 0) ⟨rfl, by decide⟩ rfl ?_
      refine he_ga h (f := 807) (o := 0) ⟨⟨rfl, by decide, by decide⟩, rfl⟩ (fun v12 => ?_)
      refine hx_let (fun y13 => ?_)
      refine he_pa h (f := 808) (o := 0) ⟨⟨rfl, by decide, by decide⟩, rfl⟩ (fun μ14 h => ?_)
      exact (eh_X8_explore_167 h)
noncomputable def h_X8_explore_14_b (x2 : Int) (μ : cM) : Option ((Int × cM) ⊕ cO) :=
  if x2 < 0 then
    (h_X8_explore_170 μ).map (fun r => (.inr r))
  else
    (hga μ 811 0 x2).bind fun v2 =>
    hci (h_X8_following v2 μ) fun v3 μ4 =>
    if v3 = (-1) then
      h_X8_explore_68 x2 v2 v3 μ4
    else
      (hga μ4 807 0 v3).bind fun v6 =>
      if v6 ≠ 0 then
        h_X8_explore_68 x2 v2 v3 μ4
      else
        zlet (zadd x2 1) fun y7 =>
        (hpa μ4 811 0 y7 v3).bind fun μ9 =>
        hcv (h_X8_enter v3 μ9) fun μ10 =>
        h_X8_explore_167 y7 μ10
theorem eh_X8_explore_14_b {B : Nat} {τ : zM} {x2 : Int} {μ : cM} (h : cOK B τ μ.2) : hR (Sum.map (fun s => (s.1, cw B s.2)) (hf B)) (Sum.elim (fun s : Int × cM => cOK B τ s.2.2) (hp B τ)) (f_X8_explore_14_b (cad B 8 0) x2 (cw B μ)) (h_X8_explore_14_b x2 μ) := by
  unfold f_X8_explore_14_b h_X8_explore_14_b
  refine hx_if ?_ ?_
  · exact hx_map (eh_X8_explore_170 h) (fun r => rfl) (fun r q => q)
  · refine he_gA h (f := 811) (c := 8) (o := 0) ⟨rfl, by decide⟩ rfl ?_
    refine he_ga h (f := 811) (o := 0) ⟨⟨rfl, by decide, by decide⟩, rfl⟩ (fun v2 => ?_)
    refine hx_is h ⟨rfl, by decide, by decide⟩ ?_
    refine hx_ci (eh_X8_following h) (fun v3 μ4 h => ?_)
    refine hx_if ?_ ?_
    · exact (eh_X8_explore_68 h)
    · refine he_gA h (f := 807) (c := 8) (o := 0) ⟨rfl, by decide⟩ rfl ?_
      refine he_ga h (f := 807) (o := 0) ⟨⟨rfl, by decide, by decide⟩, rfl⟩ (fun v6 => ?_)
      refine hx_if ?_ ?_
      · exact (eh_X8_explore_68 h)
      · refine hx_let (fun y7 => ?_)
        refine he_gA h (f := 811) (c := 8) (o := 0) ⟨rfl, by decide⟩ rfl ?_
        refine he_pa h (f := 811) (o := 0) ⟨⟨rfl, by decide, by decide⟩, rfl⟩ (fun μ9 h => ?_)
        refine hx_is h ⟨rfl, by decide, by decide⟩ ?_
        refine hx_cv (eh_X8_enter h) (fun μ10 h => ?_)
        exact (eh_X8_explore_167 h)
noncomputable def h_X8_explore_14 (x2 : Int) (μ : cM) : Option cO :=
  zloop (fun s : Int × cM => h_X8_explore_14_b s.1 s.2) (x2, μ)
theorem eh_X8_explore_14 {B : Nat} {τ : zM} {x2 : Int} {μ : cM} (h : cOK B τ μ.2) : hR (hf B) (hp B τ) (f_X8_explore_14 (cad B 8 0) x2 (cw B μ)) (h_X8_explore_14 x2 μ) := by
  unfold f_X8_explore_14 h_X8_explore_14
  refine hx_loop (φ := (fun s => (s.1, cw B s.2))) (Ps := (fun s : Int × cM => cOK B τ s.2.2)) (s := (x2, μ)) h (fun s hs => ?_)
  exact eh_X8_explore_14_b hs
noncomputable def h_X8_explore (x1 : Int) (μ : cM) : Option cO :=
  (hpa μ 811 0 0 x1).bind fun μ2 =>
  hcv (h_X8_enter x1 μ2) fun μ3 =>
  h_X8_explore_14 0 μ3
theorem eh_X8_explore {B : Nat} {τ : zM} {x1 : Int} {μ : cM} (h : cOK B τ μ.2) : hR (hf B) (hp B τ) (f_X8_explore (cad B 8 0) x1 (cw B μ)) (h_X8_explore x1 μ) := by
  unfold f_X8_explore h_X8_explore
  refine he_gA h (f := 811) (c := 8) (o := 0) ⟨rfl, by decide⟩ rfl ?_
  refine he_pa h (f := 811) (o := 0) ⟨⟨rfl, by decide, by decide⟩, rfl⟩ (fun μ2 h => ?_)
  refine hx_is h ⟨rfl, by decide, by decide⟩ ?_
  refine hx_cv (eh_X8_enter h) (fun μ3 h => ?_)
  exact (eh_X8_explore_14 h)
noncomputable def h_X8_mark_109 (μ : cM) : Option cO :=
  some (0, ((3, 0) : zV), μ)
theorem eh_X8_mark_109 {B : Nat} {τ : zM} {μ : cM} (h : cOK B τ μ.2) : hR (hf B) (hp B τ) (f_X8_mark_109  (cw B μ)) (h_X8_mark_109  μ) := by
  unfold f_X8_mark_109 h_X8_mark_109
  first | exact hx_some rfl h | exact hx_some rfl trivial
noncomputable def h_X8_mark_103 (x1 : Int) (μ : cM) : Option ((Int × cM) ⊕ cO) :=
  zlet (zadd x1 1) fun y1 =>
  some (.inl (y1, μ))
theorem eh_X8_mark_103 {B : Nat} {τ : zM} {x1 : Int} {μ : cM} (h : cOK B τ μ.2) : hR (Sum.map (fun s => (s.1, cw B s.2)) (hf B)) (Sum.elim (fun s : Int × cM => cOK B τ s.2.2) (hp B τ)) (f_X8_mark_103 (cad B 8 0) x1 (cw B μ)) (h_X8_mark_103 x1 μ) := by
  unfold f_X8_mark_103 h_X8_mark_103
  refine hx_let (fun y1 => ?_)
  first | exact hx_some rfl h | exact hx_some rfl trivial
noncomputable def h_X8_mark_64_b (x1 : Int) (μ : cM) : Option ((Int × cM) ⊕ cO) :=
  zlet (hG μ 220 0) fun v2 =>
  if (zmul 8 v2) ≤ x1 then
    (h_X8_mark_109 μ).map (fun r => (.inr r))
  else
    hci (h_X8_kinds μ) fun v3 μ4 =>
    if v3 ≤ (zrem x1 8) then
      h_X8_mark_103 x1 μ4
    else
      (hga μ4 807 0 x1).bind fun v6 =>
      if v6 ≠ 0 then
        h_X8_mark_103 x1 μ4
      else
        hcv (h_X8_explore x1 μ4) fun μ7 =>
        h_X8_mark_103 x1 μ7
theorem eh_X8_mark_64_b {B : Nat} {τ : zM} {x1 : Int} {μ : cM} (h : cOK B τ μ.2) : hR (Sum.map (fun s => (s.1, cw B s.2)) (hf B)) (Sum.elim (fun s : Int × cM => cOK B τ s.2.2) (hp B τ)) (f_X8_mark_64_b (cad B 8 0) x1 (cw B μ)) (h_X8_mark_64_b x1 μ) := by
  unfold f_X8_mark_64_b h_X8_mark_64_b
  refine he_gr h (f := 800) (c := 8) (o := 0) ⟨by decide, by decide⟩ rfl ?_
  refine he_gs h (f := 220) (c := 2) (o := 0) ⟨rfl, by decide, by decide⟩ rfl (fun v2 => ?_)
  refine hx_if ?_ ?_
  · exact hx_map (eh_X8_mark_109 h) (fun r => rfl) (fun r q => q)
  · refine hx_is h ⟨rfl, by decide, by decide⟩ ?_
    refine hx_ci (eh_X8_kinds h) (fun v3 μ4 h => ?_)
    refine hx_if ?_ ?_
    · exact (eh_X8_mark_103 h)
    · refine he_gA h (f := 807) (c := 8) (o := 0) ⟨rfl, by decide⟩ rfl ?_
      refine he_ga h (f := 807) (o := 0) ⟨⟨rfl, by decide, by decide⟩, rfl⟩ (fun v6 => ?_)
      refine hx_if ?_ ?_
      · exact (eh_X8_mark_103 h)
      · refine hx_is h ⟨rfl, by decide, by decide⟩ ?_
        refine hx_cv (eh_X8_explore h) (fun μ7 h => ?_)
        exact (eh_X8_mark_103 h)
noncomputable def h_X8_mark_64 (x1 : Int) (μ : cM) : Option cO :=
  zloop (fun s : Int × cM => h_X8_mark_64_b s.1 s.2) (x1, μ)
theorem eh_X8_mark_64 {B : Nat} {τ : zM} {x1 : Int} {μ : cM} (h : cOK B τ μ.2) : hR (hf B) (hp B τ) (f_X8_mark_64 (cad B 8 0) x1 (cw B μ)) (h_X8_mark_64 x1 μ) := by
  unfold f_X8_mark_64 h_X8_mark_64
  refine hx_loop (φ := (fun s => (s.1, cw B s.2))) (Ps := (fun s : Int × cM => cOK B τ s.2.2)) (s := (x1, μ)) h (fun s hs => ?_)
  exact eh_X8_mark_64_b hs
noncomputable def h_X8_mark_62 (μ : cM) : Option cO :=
  h_X8_mark_64 0 μ
theorem eh_X8_mark_62 {B : Nat} {τ : zM} {μ : cM} (h : cOK B τ μ.2) : hR (hf B) (hp B τ) (f_X8_mark_62 (cad B 8 0) (cw B μ)) (h_X8_mark_62  μ) := by
  unfold f_X8_mark_62 h_X8_mark_62
  exact (eh_X8_mark_64 h)
noncomputable def h_X8_mark_12_b (x1 : Int) (μ : cM) : Option ((Int × cM) ⊕ cO) :=
  zlet (hG μ 220 0) fun v2 =>
  if (zmul 8 v2) ≤ x1 then
    (h_X8_mark_62 μ).map (fun r => (.inr r))
  else
    (hpa μ 807 0 x1 0).bind fun μ4 =>
    (hpa μ4 809 0 x1 0).bind fun μ6 =>
    zgd (z01 0) <|
    (hpa μ6 812 0 x1 0).bind fun μ8 =>
    (hpa μ8 815 0 x1 30000).bind fun μ10 =>
    zlet (zadd x1 1) fun y11 =>
    some (.inl (y11, μ10))
theorem eh_X8_mark_12_b {B : Nat} {τ : zM} {x1 : Int} {μ : cM} (h : cOK B τ μ.2) : hR (Sum.map (fun s => (s.1, cw B s.2)) (hf B)) (Sum.elim (fun s : Int × cM => cOK B τ s.2.2) (hp B τ)) (f_X8_mark_12_b (cad B 8 0) x1 (cw B μ)) (h_X8_mark_12_b x1 μ) := by
  unfold f_X8_mark_12_b h_X8_mark_12_b
  refine he_gr h (f := 800) (c := 8) (o := 0) ⟨by decide, by decide⟩ rfl ?_
  refine he_gs h (f := 220) (c := 2) (o := 0) ⟨rfl, by decide, by decide⟩ rfl (fun v2 => ?_)
  refine hx_if ?_ ?_
  · exact hx_map (eh_X8_mark_62 h) (fun r => rfl) (fun r q => q)
  · refine he_gA h (f := 807) (c := 8) (o := 0) ⟨rfl, by decide⟩ rfl ?_
    refine he_pa h (f := 807) (o := 0) ⟨⟨rfl, by decide, by decide⟩, rfl⟩ (fun μ4 h => ?_)
    refine he_gA h (f := 809) (c := 8) (o := 0) ⟨rfl, by decide⟩ rfl ?_
    refine he_pa h (f := 809) (o := 0) ⟨⟨rfl, by decide, by decide⟩, rfl⟩ (fun μ6 h => ?_)
    refine he_gA h (f := 812) (c := 8) (o := 0) ⟨rfl, by decide⟩ rfl ?_
    refine hx_gd ?_
    refine he_pa h (f := 812) (o := 0) ⟨⟨rfl, by decide, by decide⟩, rfl⟩ (fun μ8 h => ?_)
    refine he_gA h (f := 815) (c := 8) (o := 0) ⟨rfl, by decide⟩ rfl ?_
    refine he_pa h (f := 815) (o := 0) ⟨⟨rfl, by decide, by decide⟩, rfl⟩ (fun μ10 h => ?_)
    refine hx_let (fun y11 => ?_)
    first | exact hx_some rfl h | exact hx_some rfl trivial
noncomputable def h_X8_mark_12 (x1 : Int) (μ : cM) : Option cO :=
  zloop (fun s : Int × cM => h_X8_mark_12_b s.1 s.2) (x1, μ)
theorem eh_X8_mark_12 {B : Nat} {τ : zM} {x1 : Int} {μ : cM} (h : cOK B τ μ.2) : hR (hf B) (hp B τ) (f_X8_mark_12 (cad B 8 0) x1 (cw B μ)) (h_X8_mark_12 x1 μ) := by
  unfold f_X8_mark_12 h_X8_mark_12
  refine hx_loop (φ := (fun s => (s.1, cw B s.2))) (Ps := (fun s : Int × cM => cOK B τ s.2.2)) (s := (x1, μ)) h (fun s hs => ?_)
  exact eh_X8_mark_12_b hs
noncomputable def h_X8_mark (μ : cM) : Option cO :=
  hwl (hS μ 813 0 0) fun μ1 =>
  hwl (hS μ1 814 0 0) fun μ2 =>
  h_X8_mark_12 0 μ2
theorem eh_X8_mark {B : Nat} {τ : zM} {μ : cM} (h : cOK B τ μ.2) : hR (hf B) (hp B τ) (f_X8_mark (cad B 8 0) (cw B μ)) (h_X8_mark  μ) := by
  unfold f_X8_mark h_X8_mark
  refine he_ps h (f := 813) (c := 8) (o := 0) ⟨rfl, by decide, by decide⟩ rfl (fun μ1 h => ?_)
  refine he_ps h (f := 814) (c := 8) (o := 0) ⟨rfl, by decide, by decide⟩ rfl (fun μ2 h => ?_)
  exact (eh_X8_mark_12 h)
noncomputable def h_X8_spread_172 (μ : cM) : Option cO :=
  some (0, ((3, 0) : zV), μ)
theorem eh_X8_spread_172 {B : Nat} {τ : zM} {μ : cM} (h : cOK B τ μ.2) : hR (hf B) (hp B τ) (f_X8_spread_172  (cw B μ)) (h_X8_spread_172  μ) := by
  unfold f_X8_spread_172 h_X8_spread_172
  first | exact hx_some rfl h | exact hx_some rfl trivial
noncomputable def h_X8_spread_169 (x1 x2 : Int) (μ : cM) : Option ((Int × Int × cM) ⊕ cO) :=
  some (.inl (x1, x2, μ))
theorem eh_X8_spread_169 {B : Nat} {τ : zM} {x1 x2 : Int} {μ : cM} (h : cOK B τ μ.2) : hR (Sum.map (fun s => (s.1, s.2.1, cw B s.2.2)) (hf B)) (Sum.elim (fun s : Int × Int × cM => cOK B τ s.2.2.2) (hp B τ)) (f_X8_spread_169 (cad B 8 0) x1 x2 (cw B μ)) (h_X8_spread_169 x1 x2 μ) := by
  unfold f_X8_spread_169 h_X8_spread_169
  first | exact hx_some rfl h | exact hx_some rfl trivial
noncomputable def h_X8_spread_155 (x1 x2 x3 x4 : Int) (μ : cM) : Option ((Int × Int × cM) ⊕ ((Int × Int × cM) ⊕ cO)) :=
  (hga μ 806 0 (zsub x4 1)).bind fun v2 =>
  some (.inl (x2, v2, μ))
theorem eh_X8_spread_155 {B : Nat} {τ : zM} {x1 x2 x3 x4 : Int} {μ : cM} (h : cOK B τ μ.2) : hR (Sum.map (fun s => (s.1, s.2.1, cw B s.2.2)) (Sum.map (fun s => (s.1, s.2.1, cw B s.2.2)) (hf B))) (Sum.elim (fun s : Int × Int × cM => cOK B τ s.2.2.2) (Sum.elim (fun s : Int × Int × cM => cOK B τ s.2.2.2) (hp B τ))) (f_X8_spread_155 (cad B 8 0) x1 x2 x3 x4 (cw B μ)) (h_X8_spread_155 x1 x2 x3 x4 μ) := by
  unfold f_X8_spread_155 h_X8_spread_155
  refine he_gA h (f := 806) (c := 8) (o := 0) ⟨rfl, by decide⟩ rfl ?_
  refine he_ga h (f := 806) (o := 0) ⟨⟨rfl, by decide, by decide⟩, rfl⟩ (fun v2 => ?_)
  first | exact hx_some rfl h | exact hx_some rfl trivial
noncomputable def h_X8_spread_74_b (x1 x2 x3 x4 : Int) (μ : cM) : Option ((Int × Int × cM) ⊕ ((Int × Int × cM) ⊕ cO)) :=
  if x4 ≤ 0 then
    (h_X8_spread_169 x1 x2 μ).map (fun r => (.inr r))
  else
    (hga μ 216 0 (zsub x4 1)).bind fun v3 =>
    zlet ((zmul 8 v3)) fun y4 =>
    (hga μ 803 0 (zadd y4 (zrem x3 8))).bind fun v6 =>
    zlet ((zadd y4 v6)) fun y7 =>
    (hga μ 815 0 y7).bind fun v9 =>
    if v9 = 30000 then
      (hga μ 815 0 x3).bind fun v12 =>
      (hpa μ 815 0 y7 (zadd v12 1)).bind fun μ13 =>
      (hpa μ13 817 0 x2 y7).bind fun μ15 =>
      zlet (zadd x2 1) fun y16 =>
      h_X8_spread_155 x1 y16 x3 x4 μ15
    else
      h_X8_spread_155 x1 x2 x3 x4 μ
theorem eh_X8_spread_74_b {B : Nat} {τ : zM} {x1 x2 x3 x4 : Int} {μ : cM} (h : cOK B τ μ.2) : hR (Sum.map (fun s => (s.1, s.2.1, cw B s.2.2)) (Sum.map (fun s => (s.1, s.2.1, cw B s.2.2)) (hf B))) (Sum.elim (fun s : Int × Int × cM => cOK B τ s.2.2.2) (Sum.elim (fun s : Int × Int × cM => cOK B τ s.2.2.2) (hp B τ))) (f_X8_spread_74_b (cad B 8 0) x1 x2 x3 x4 (cw B μ)) (h_X8_spread_74_b x1 x2 x3 x4 μ) := by
  unfold f_X8_spread_74_b h_X8_spread_74_b
  refine hx_if ?_ ?_
  · exact hx_map (eh_X8_spread_169 h) (fun r => rfl) (fun r q => q)
  · refine he_gr h (f := 800) (c := 8) (o := 0) ⟨by decide, by decide⟩ rfl ?_
    refine he_gA h (f := 216) (c := 2) (o := 0) ⟨rfl, by decide⟩ rfl ?_
    refine he_ga h (f := 216) (o := 0) ⟨⟨rfl, by decide, by decide⟩, rfl⟩ (fun v3 => ?_)
    refine hx_let (fun y4 => ?_)
    refine he_gA h (f := 803) (c := 8) (o := 0) ⟨rfl, by decide⟩ rfl ?_
    refine he_ga h (f := 803) (o := 0) ⟨⟨rfl, by decide, by decide⟩, rfl⟩ (fun v6 => ?_)
    refine hx_let (fun y7 => ?_)
    refine he_gA h (f := 815) (c := 8) (o := 0) ⟨rfl, by decide⟩ rfl ?_
    refine he_ga h (f := 815) (o := 0) ⟨⟨rfl, by decide, by decide⟩, rfl⟩ (fun v9 => ?_)
    refine hx_if ?_ ?_
    · refine he_gA h (f := 815) (c := 8) (o := 0) ⟨rfl, by decide⟩ rfl ?_
      refine he_gA h (f := 815) (c := 8) (o := 0) ⟨rfl, by decide⟩ rfl ?_
      refine he_ga h (f := 815) (o := 0) ⟨⟨rfl, by decide, by decide⟩, rfl⟩ (fun v12 => ?_)
      refine he_pa h (f := 815) (o := 0) ⟨⟨rfl, by decide, by decide⟩, rfl⟩ (fun μ13 h => ?_)
      refine he_gA h (f := 817) (c := 8) (o := 0) ⟨rfl, by decide⟩ rfl ?_
      refine he_pa h (f := 817) (o := 0) ⟨⟨rfl, by decide, by decide⟩, rfl⟩ (fun μ15 h => ?_)
      refine hx_let (fun y16 => ?_)
      exact (eh_X8_spread_155 h)
    · exact (eh_X8_spread_155 h)
noncomputable def h_X8_spread_74 (x1 x2 x3 x4 : Int) (μ : cM) : Option ((Int × Int × cM) ⊕ cO) :=
  zloop (fun s : Int × Int × cM => h_X8_spread_74_b x1 s.1 x3 s.2.1 s.2.2) (x2, x4, μ)
theorem eh_X8_spread_74 {B : Nat} {τ : zM} {x1 x2 x3 x4 : Int} {μ : cM} (h : cOK B τ μ.2) : hR (Sum.map (fun s => (s.1, s.2.1, cw B s.2.2)) (hf B)) (Sum.elim (fun s : Int × Int × cM => cOK B τ s.2.2.2) (hp B τ)) (f_X8_spread_74 (cad B 8 0) x1 x2 x3 x4 (cw B μ)) (h_X8_spread_74 x1 x2 x3 x4 μ) := by
  unfold f_X8_spread_74 h_X8_spread_74
  refine hx_loop (φ := (fun s => (s.1, s.2.1, cw B s.2.2))) (Ps := (fun s : Int × Int × cM => cOK B τ s.2.2.2)) (s := (x2, x4, μ)) h (fun s hs => ?_)
  exact eh_X8_spread_74_b hs
noncomputable def h_X8_spread_48_b (x1 x2 : Int) (μ : cM) : Option ((Int × Int × cM) ⊕ cO) :=
  if x2 ≤ x1 then
    (h_X8_spread_172 μ).map (fun r => (.inr r))
  else
    (hga μ 817 0 x1).bind fun v2 =>
    zlet (zadd x1 1) fun y3 =>
    (hga μ 805 0 (zdiv v2 8)).bind fun v5 =>
    h_X8_spread_74 y3 x2 v2 v5 μ
theorem eh_X8_spread_48_b {B : Nat} {τ : zM} {x1 x2 : Int} {μ : cM} (h : cOK B τ μ.2) : hR (Sum.map (fun s => (s.1, s.2.1, cw B s.2.2)) (hf B)) (Sum.elim (fun s : Int × Int × cM => cOK B τ s.2.2.2) (hp B τ)) (f_X8_spread_48_b (cad B 8 0) x1 x2 (cw B μ)) (h_X8_spread_48_b x1 x2 μ) := by
  unfold f_X8_spread_48_b h_X8_spread_48_b
  refine hx_if ?_ ?_
  · exact hx_map (eh_X8_spread_172 h) (fun r => rfl) (fun r q => q)
  · refine he_gA h (f := 817) (c := 8) (o := 0) ⟨rfl, by decide⟩ rfl ?_
    refine he_ga h (f := 817) (o := 0) ⟨⟨rfl, by decide, by decide⟩, rfl⟩ (fun v2 => ?_)
    refine hx_let (fun y3 => ?_)
    refine he_gA h (f := 805) (c := 8) (o := 0) ⟨rfl, by decide⟩ rfl ?_
    refine he_ga h (f := 805) (o := 0) ⟨⟨rfl, by decide, by decide⟩, rfl⟩ (fun v5 => ?_)
    exact (eh_X8_spread_74 h)
noncomputable def h_X8_spread_48 (x1 x2 : Int) (μ : cM) : Option cO :=
  zloop (fun s : Int × Int × cM => h_X8_spread_48_b s.1 s.2.1 s.2.2) (x1, x2, μ)
theorem eh_X8_spread_48 {B : Nat} {τ : zM} {x1 x2 : Int} {μ : cM} (h : cOK B τ μ.2) : hR (hf B) (hp B τ) (f_X8_spread_48 (cad B 8 0) x1 x2 (cw B μ)) (h_X8_spread_48 x1 x2 μ) := by
  unfold f_X8_spread_48 h_X8_spread_48
  refine hx_loop (φ := (fun s => (s.1, s.2.1, cw B s.2.2))) (Ps := (fun s : Int × Int × cM => cOK B τ s.2.2.2)) (s := (x1, x2, μ)) h (fun s hs => ?_)
  exact eh_X8_spread_48_b hs
noncomputable def h_X8_spread_42 (x1 x2 x3 : Int) (μ : cM) : Option ((Int × Int × cM) ⊕ cO) :=
  zlet (zadd x3 1) fun y1 =>
  some (.inl (x2, y1, μ))
theorem eh_X8_spread_42 {B : Nat} {τ : zM} {x1 x2 x3 : Int} {μ : cM} (h : cOK B τ μ.2) : hR (Sum.map (fun s => (s.1, s.2.1, cw B s.2.2)) (hf B)) (Sum.elim (fun s : Int × Int × cM => cOK B τ s.2.2.2) (hp B τ)) (f_X8_spread_42 (cad B 8 0) x1 x2 x3 (cw B μ)) (h_X8_spread_42 x1 x2 x3 μ) := by
  unfold f_X8_spread_42 h_X8_spread_42
  refine hx_let (fun y1 => ?_)
  first | exact hx_some rfl h | exact hx_some rfl trivial
noncomputable def h_X8_spread_6_b (x1 x2 x3 : Int) (μ : cM) : Option ((Int × Int × cM) ⊕ cO) :=
  zlet (hG μ 220 0) fun v2 =>
  if (zmul 8 v2) ≤ x3 then
    (h_X8_spread_48 x1 x2 μ).map (fun r => (.inr r))
  else
    (hga μ 815 0 x3).bind fun v4 =>
    if v4 = 0 then
      (hpa μ 817 0 x2 x3).bind fun μ6 =>
      zlet (zadd x2 1) fun y7 =>
      h_X8_spread_42 x1 y7 x3 μ6
    else
      h_X8_spread_42 x1 x2 x3 μ
theorem eh_X8_spread_6_b {B : Nat} {τ : zM} {x1 x2 x3 : Int} {μ : cM} (h : cOK B τ μ.2) : hR (Sum.map (fun s => (s.1, s.2.1, cw B s.2.2)) (hf B)) (Sum.elim (fun s : Int × Int × cM => cOK B τ s.2.2.2) (hp B τ)) (f_X8_spread_6_b (cad B 8 0) x1 x2 x3 (cw B μ)) (h_X8_spread_6_b x1 x2 x3 μ) := by
  unfold f_X8_spread_6_b h_X8_spread_6_b
  refine he_gr h (f := 800) (c := 8) (o := 0) ⟨by decide, by decide⟩ rfl ?_
  refine he_gs h (f := 220) (c := 2) (o := 0) ⟨rfl, by decide, by decide⟩ rfl (fun v2 => ?_)
  refine hx_if ?_ ?_
  · exact hx_map (eh_X8_spread_48 h) (fun r => rfl) (fun r q => q)
  · refine he_gA h (f := 815) (c := 8) (o := 0) ⟨rfl, by decide⟩ rfl ?_
    refine he_ga h (f := 815) (o := 0) ⟨⟨rfl, by decide, by decide⟩, rfl⟩ (fun v4 => ?_)
    refine hx_if ?_ ?_
    · refine he_gA h (f := 817) (c := 8) (o := 0) ⟨rfl, by decide⟩ rfl ?_
      refine he_pa h (f := 817) (o := 0) ⟨⟨rfl, by decide, by decide⟩, rfl⟩ (fun μ6 h => ?_)
      refine hx_let (fun y7 => ?_)
      exact (eh_X8_spread_42 h)
    · exact (eh_X8_spread_42 h)
noncomputable def h_X8_spread_6 (x1 x2 x3 : Int) (μ : cM) : Option cO :=
  zloop (fun s : Int × Int × cM => h_X8_spread_6_b x1 s.1 s.2.1 s.2.2) (x2, x3, μ)
theorem eh_X8_spread_6 {B : Nat} {τ : zM} {x1 x2 x3 : Int} {μ : cM} (h : cOK B τ μ.2) : hR (hf B) (hp B τ) (f_X8_spread_6 (cad B 8 0) x1 x2 x3 (cw B μ)) (h_X8_spread_6 x1 x2 x3 μ) := by
  unfold f_X8_spread_6 h_X8_spread_6
  refine hx_loop (φ := (fun s => (s.1, s.2.1, cw B s.2.2))) (Ps := (fun s : Int × Int × cM => cOK B τ s.2.2.2)) (s := (x2, x3, μ)) h (fun s hs => ?_)
  exact eh_X8_spread_6_b hs
noncomputable def h_X8_spread (μ : cM) : Option cO :=
  h_X8_spread_6 0 0 0 μ
theorem eh_X8_spread {B : Nat} {τ : zM} {μ : cM} (h : cOK B τ μ.2) : hR (hf B) (hp B τ) (f_X8_spread (cad B 8 0) (cw B μ)) (h_X8_spread  μ) := by
  unfold f_X8_spread h_X8_spread
  exact (eh_X8_spread_6 h)
noncomputable def h_X8_nearer_79 (x5 : Int) (μ : cM) : Option cO :=
  some (0, zi x5, μ)
theorem eh_X8_nearer_79 {B : Nat} {τ : zM} {x5 : Int} {μ : cM} (h : cOK B τ μ.2) : hR (hf B) (hp B τ) (f_X8_nearer_79 x5 (cw B μ)) (h_X8_nearer_79 x5 μ) := by
  unfold f_X8_nearer_79 h_X8_nearer_79
  first | exact hx_some rfl h | exact hx_some rfl trivial
noncomputable def h_X8_nearer_73 (x1 x2 x4 x5 x6 x7 : Int) (μ : cM) : Option ((Int × Int × cM) ⊕ cO) :=
  zlet (zadd x7 1) fun y1 =>
  some (.inl (x5, y1, μ))
theorem eh_X8_nearer_73 {B : Nat} {τ : zM} {x1 x2 x4 x5 x6 x7 : Int} {μ : cM} (h : cOK B τ μ.2) : hR (Sum.map (fun s => (s.1, s.2.1, cw B s.2.2)) (hf B)) (Sum.elim (fun s : Int × Int × cM => cOK B τ s.2.2.2) (hp B τ)) (f_X8_nearer_73 (cad B 8 0) x1 x2 x4 x5 x6 x7 (cw B μ)) (h_X8_nearer_73 x1 x2 x4 x5 x6 x7 μ) := by
  unfold f_X8_nearer_73 h_X8_nearer_73
  refine hx_let (fun y1 => ?_)
  first | exact hx_some rfl h | exact hx_some rfl trivial
noncomputable def h_X8_nearer_20_b (x1 x2 x4 x5 x6 x7 : Int) (μ : cM) : Option ((Int × Int × cM) ⊕ cO) :=
  hci (h_X8_kinds μ) fun v1 μ2 =>
  if v1 ≤ x7 then
    (h_X8_nearer_79 x5 μ2).map (fun r => (.inr r))
  else
    (hga μ2 815 0 (zadd x6 x7)).bind fun v4 =>
    if v4 ≠ x4 then
      h_X8_nearer_73 x1 x2 x4 x5 x6 x7 μ2
    else
      (hga μ2 803 0 (zadd (zmul 8 x1) x7)).bind fun v6 =>
      if (zand (zshr x2 v6) 1) ≠ 1 then
        h_X8_nearer_73 x1 x2 x4 x5 x6 x7 μ2
      else
        zlet ((zor x5 (zshl 1 x7))) fun y7 =>
        h_X8_nearer_73 x1 x2 x4 y7 x6 x7 μ2
theorem eh_X8_nearer_20_b {B : Nat} {τ : zM} {x1 x2 x4 x5 x6 x7 : Int} {μ : cM} (h : cOK B τ μ.2) : hR (Sum.map (fun s => (s.1, s.2.1, cw B s.2.2)) (hf B)) (Sum.elim (fun s : Int × Int × cM => cOK B τ s.2.2.2) (hp B τ)) (f_X8_nearer_20_b (cad B 8 0) x1 x2 x4 x5 x6 x7 (cw B μ)) (h_X8_nearer_20_b x1 x2 x4 x5 x6 x7 μ) := by
  unfold f_X8_nearer_20_b h_X8_nearer_20_b
  refine hx_is h ⟨rfl, by decide, by decide⟩ ?_
  refine hx_ci (eh_X8_kinds h) (fun v1 μ2 h => ?_)
  refine hx_if ?_ ?_
  · exact hx_map (eh_X8_nearer_79 h) (fun r => rfl) (fun r q => q)
  · refine he_gA h (f := 815) (c := 8) (o := 0) ⟨rfl, by decide⟩ rfl ?_
    refine he_ga h (f := 815) (o := 0) ⟨⟨rfl, by decide, by decide⟩, rfl⟩ (fun v4 => ?_)
    refine hx_if ?_ ?_
    · exact (eh_X8_nearer_73 h)
    · refine he_gA h (f := 803) (c := 8) (o := 0) ⟨rfl, by decide⟩ rfl ?_
      refine he_ga h (f := 803) (o := 0) ⟨⟨rfl, by decide, by decide⟩, rfl⟩ (fun v6 => ?_)
      refine hx_if ?_ ?_
      · exact (eh_X8_nearer_73 h)
      · refine hx_let (fun y7 => ?_)
        exact (eh_X8_nearer_73 h)
noncomputable def h_X8_nearer_20 (x1 x2 x4 x5 x6 x7 : Int) (μ : cM) : Option cO :=
  zloop (fun s : Int × Int × cM => h_X8_nearer_20_b x1 x2 x4 s.1 x6 s.2.1 s.2.2) (x5, x7, μ)
theorem eh_X8_nearer_20 {B : Nat} {τ : zM} {x1 x2 x4 x5 x6 x7 : Int} {μ : cM} (h : cOK B τ μ.2) : hR (hf B) (hp B τ) (f_X8_nearer_20 (cad B 8 0) x1 x2 x4 x5 x6 x7 (cw B μ)) (h_X8_nearer_20 x1 x2 x4 x5 x6 x7 μ) := by
  unfold f_X8_nearer_20 h_X8_nearer_20
  refine hx_loop (φ := (fun s => (s.1, s.2.1, cw B s.2.2))) (Ps := (fun s : Int × Int × cM => cOK B τ s.2.2.2)) (s := (x5, x7, μ)) h (fun s hs => ?_)
  exact eh_X8_nearer_20_b hs
noncomputable def h_X8_nearer (x1 x2 x3 x4 : Int) (μ : cM) : Option cO :=
  (hga μ 217 0 x3).bind fun v3 =>
  zlet ((zmul 8 v3)) fun y4 =>
  h_X8_nearer_20 x1 x2 x4 0 y4 0 μ
theorem eh_X8_nearer {B : Nat} {τ : zM} {x1 x2 x3 x4 : Int} {μ : cM} (h : cOK B τ μ.2) : hR (hf B) (hp B τ) (f_X8_nearer (cad B 8 0) x1 x2 x3 x4 (cw B μ)) (h_X8_nearer x1 x2 x3 x4 μ) := by
  unfold f_X8_nearer h_X8_nearer
  refine he_gr h (f := 800) (c := 8) (o := 0) ⟨by decide, by decide⟩ rfl ?_
  refine he_gA h (f := 217) (c := 2) (o := 0) ⟨rfl, by decide⟩ rfl ?_
  refine he_ga h (f := 217) (o := 0) ⟨⟨rfl, by decide, by decide⟩, rfl⟩ (fun v3 => ?_)
  refine hx_let (fun y4 => ?_)
  exact (eh_X8_nearer_20 h)
noncomputable def h_X8_unwind_250 (μ : cM) : Option cO :=
  some (0, ((3, 0) : zV), μ)
theorem eh_X8_unwind_250 {B : Nat} {τ : zM} {μ : cM} (h : cOK B τ μ.2) : hR (hf B) (hp B τ) (f_X8_unwind_250  (cw B μ)) (h_X8_unwind_250  μ) := by
  unfold f_X8_unwind_250 h_X8_unwind_250
  first | exact hx_some rfl h | exact hx_some rfl trivial
noncomputable def h_X8_unwind_244 (x2 x3 x4 : Int) (μ : cM) : Option ((Int × Int × cM) ⊕ cO) :=
  zlet (zadd x3 1) fun y1 =>
  some (.inl (y1, x4, μ))
theorem eh_X8_unwind_244 {B : Nat} {τ : zM} {x2 x3 x4 : Int} {μ : cM} (h : cOK B τ μ.2) : hR (Sum.map (fun s => (s.1, s.2.1, cw B s.2.2)) (hf B)) (Sum.elim (fun s : Int × Int × cM => cOK B τ s.2.2.2) (hp B τ)) (f_X8_unwind_244 (cad B 8 0) x2 x3 x4 (cw B μ)) (h_X8_unwind_244 x2 x3 x4 μ) := by
  unfold f_X8_unwind_244 h_X8_unwind_244
  refine hx_let (fun y1 => ?_)
  first | exact hx_some rfl h | exact hx_some rfl trivial
noncomputable def h_X8_unwind_230 (x2 x3 x4 x5 x6 x7 : Int) (μ : cM) : Option ((Int × Int × cM) ⊕ ((Int × Int × cM) ⊕ cO)) :=
  (hga μ 806 0 (zsub x7 1)).bind fun v2 =>
  some (.inl (x4, v2, μ))
theorem eh_X8_unwind_230 {B : Nat} {τ : zM} {x2 x3 x4 x5 x6 x7 : Int} {μ : cM} (h : cOK B τ μ.2) : hR (Sum.map (fun s => (s.1, s.2.1, cw B s.2.2)) (Sum.map (fun s => (s.1, s.2.1, cw B s.2.2)) (hf B))) (Sum.elim (fun s : Int × Int × cM => cOK B τ s.2.2.2) (Sum.elim (fun s : Int × Int × cM => cOK B τ s.2.2.2) (hp B τ))) (f_X8_unwind_230 (cad B 8 0) x2 x3 x4 x5 x6 x7 (cw B μ)) (h_X8_unwind_230 x2 x3 x4 x5 x6 x7 μ) := by
  unfold f_X8_unwind_230 h_X8_unwind_230
  refine he_gA h (f := 806) (c := 8) (o := 0) ⟨rfl, by decide⟩ rfl ?_
  refine he_ga h (f := 806) (o := 0) ⟨⟨rfl, by decide, by decide⟩, rfl⟩ (fun v2 => ?_)
  first | exact hx_some rfl h | exact hx_some rfl trivial
noncomputable def h_X8_unwind_224 (x2 x3 x4 x5 x6 x7 x9 x10 : Int) (μ : cM) : Option ((Int × Int × cM) ⊕ ((Int × Int × cM) ⊕ ((Int × Int × cM) ⊕ cO))) :=
  zlet (zadd x10 1) fun y1 =>
  some (.inl (x4, y1, μ))
theorem eh_X8_unwind_224 {B : Nat} {τ : zM} {x2 x3 x4 x5 x6 x7 x9 x10 : Int} {μ : cM} (h : cOK B τ μ.2) : hR (Sum.map (fun s => (s.1, s.2.1, cw B s.2.2)) (Sum.map (fun s => (s.1, s.2.1, cw B s.2.2)) (Sum.map (fun s => (s.1, s.2.1, cw B s.2.2)) (hf B)))) (Sum.elim (fun s : Int × Int × cM => cOK B τ s.2.2.2) (Sum.elim (fun s : Int × Int × cM => cOK B τ s.2.2.2) (Sum.elim (fun s : Int × Int × cM => cOK B τ s.2.2.2) (hp B τ)))) (f_X8_unwind_224 (cad B 8 0) x2 x3 x4 x5 x6 x7 x9 x10 (cw B μ)) (h_X8_unwind_224 x2 x3 x4 x5 x6 x7 x9 x10 μ) := by
  unfold f_X8_unwind_224 h_X8_unwind_224
  refine hx_let (fun y1 => ?_)
  first | exact hx_some rfl h | exact hx_some rfl trivial
noncomputable def h_X8_unwind_146_b (x2 x3 x4 x5 x6 x7 x9 x10 : Int) (μ : cM) : Option ((Int × Int × cM) ⊕ ((Int × Int × cM) ⊕ ((Int × Int × cM) ⊕ cO))) :=
  if x2 < x10 then
    (h_X8_unwind_230 x2 x3 x4 x5 x6 x7 μ).map (fun r => (.inr r))
  else
    (hga μ 804 0 x5).bind fun v2 =>
    if (zor x10 v2) ≠ x6 then
      h_X8_unwind_224 x2 x3 x4 x5 x6 x7 x9 x10 μ
    else
      (hga μ 816 0 (zadd x9 x10)).bind fun v4 =>
      if v4 = 30000 then
        (hga μ 817 0 x3).bind fun v8 =>
        (hga μ 816 0 v8).bind fun v9 =>
        (hpa μ 816 0 (zadd x9 x10) (zadd v9 1)).bind fun μ10 =>
        (hpa μ10 817 0 x4 (zadd x9 x10)).bind fun μ12 =>
        zlet (zadd x4 1) fun y13 =>
        h_X8_unwind_224 x2 x3 y13 x5 x6 x7 x9 x10 μ12
      else
        h_X8_unwind_224 x2 x3 x4 x5 x6 x7 x9 x10 μ
theorem eh_X8_unwind_146_b {B : Nat} {τ : zM} {x2 x3 x4 x5 x6 x7 x9 x10 : Int} {μ : cM} (h : cOK B τ μ.2) : hR (Sum.map (fun s => (s.1, s.2.1, cw B s.2.2)) (Sum.map (fun s => (s.1, s.2.1, cw B s.2.2)) (Sum.map (fun s => (s.1, s.2.1, cw B s.2.2)) (hf B)))) (Sum.elim (fun s : Int × Int × cM => cOK B τ s.2.2.2) (Sum.elim (fun s : Int × Int × cM => cOK B τ s.2.2.2) (Sum.elim (fun s : Int × Int × cM => cOK B τ s.2.2.2) (hp B τ)))) (f_X8_unwind_146_b (cad B 8 0) x2 x3 x4 x5 x6 x7 x9 x10 (cw B μ)) (h_X8_unwind_146_b x2 x3 x4 x5 x6 x7 x9 x10 μ) := by
  unfold f_X8_unwind_146_b h_X8_unwind_146_b
  refine hx_if ?_ ?_
  · exact hx_map (eh_X8_unwind_230 h) (fun r => rfl) (fun r q => q)
  · refine he_gA h (f := 804) (c := 8) (o := 0) ⟨rfl, by decide⟩ rfl ?_
    refine he_ga h (f := 804) (o := 0) ⟨⟨rfl, by decide, by decide⟩, rfl⟩ (fun v2 => ?_)
    refine hx_if ?_ ?_
    · exact (eh_X8_unwind_224 h)
    · refine he_gA h (f := 816) (c := 8) (o := 0) ⟨rfl, by decide⟩ rfl ?_
      refine he_ga h (f := 816) (o := 0) ⟨⟨rfl, by decide, by decide⟩, rfl⟩ (fun v4 => ?_)
      refine hx_if ?_ ?_
      · refine he_gA h (f := 816) (c := 8) (o := 0) ⟨rfl, by decide⟩ rfl ?_
        refine he_gA h (f := 816) (c := 8) (o := 0) ⟨rfl, by decide⟩ rfl ?_
        refine he_gA h (f := 817) (c := 8) (o := 0) ⟨rfl, by decide⟩ rfl ?_
        refine he_ga h (f := 817) (o := 0) ⟨⟨rfl, by decide, by decide⟩, rfl⟩ (fun v8 => ?_)
        refine he_ga h (f := 816) (o := 0) ⟨⟨rfl, by decide, by decide⟩, rfl⟩ (fun v9 => ?_)
        refine he_pa h (f := 816) (o := 0) ⟨⟨rfl, by decide, by decide⟩, rfl⟩ (fun μ10 h => ?_)
        refine he_gA h (f := 817) (c := 8) (o := 0) ⟨rfl, by decide⟩ rfl ?_
        refine he_pa h (f := 817) (o := 0) ⟨⟨rfl, by decide, by decide⟩, rfl⟩ (fun μ12 h => ?_)
        refine hx_let (fun y13 => ?_)
        exact (eh_X8_unwind_224 h)
      · exact (eh_X8_unwind_224 h)
noncomputable def h_X8_unwind_146 (x2 x3 x4 x5 x6 x7 x9 x10 : Int) (μ : cM) : Option ((Int × Int × cM) ⊕ ((Int × Int × cM) ⊕ cO)) :=
  zloop (fun s : Int × Int × cM => h_X8_unwind_146_b x2 x3 s.1 x5 x6 x7 x9 s.2.1 s.2.2) (x4, x10, μ)
theorem eh_X8_unwind_146 {B : Nat} {τ : zM} {x2 x3 x4 x5 x6 x7 x9 x10 : Int} {μ : cM} (h : cOK B τ μ.2) : hR (Sum.map (fun s => (s.1, s.2.1, cw B s.2.2)) (Sum.map (fun s => (s.1, s.2.1, cw B s.2.2)) (hf B))) (Sum.elim (fun s : Int × Int × cM => cOK B τ s.2.2.2) (Sum.elim (fun s : Int × Int × cM => cOK B τ s.2.2.2) (hp B τ))) (f_X8_unwind_146 (cad B 8 0) x2 x3 x4 x5 x6 x7 x9 x10 (cw B μ)) (h_X8_unwind_146 x2 x3 x4 x5 x6 x7 x9 x10 μ) := by
  unfold f_X8_unwind_146 h_X8_unwind_146
  refine hx_loop (φ := (fun s => (s.1, s.2.1, cw B s.2.2))) (Ps := (fun s : Int × Int × cM => cOK B τ s.2.2.2)) (s := (x4, x10, μ)) h (fun s hs => ?_)
  exact eh_X8_unwind_146_b hs
noncomputable def h_X8_unwind_100_b (x2 x3 x4 x5 x6 x7 : Int) (μ : cM) : Option ((Int × Int × cM) ⊕ ((Int × Int × cM) ⊕ cO)) :=
  if x7 ≤ 0 then
    (h_X8_unwind_244 x2 x3 x4 μ).map (fun r => (.inr r))
  else
    (hga μ 216 0 (zsub x7 1)).bind fun v3 =>
    zlet ((zmul 8 v3)) fun y4 =>
    (hga μ 803 0 (zadd y4 (zrem x5 8))).bind fun v6 =>
    zlet ((zmul 8 (zadd y4 v6))) fun y7 =>
    h_X8_unwind_146 x2 x3 x4 x5 x6 x7 y7 0 μ
theorem eh_X8_unwind_100_b {B : Nat} {τ : zM} {x2 x3 x4 x5 x6 x7 : Int} {μ : cM} (h : cOK B τ μ.2) : hR (Sum.map (fun s => (s.1, s.2.1, cw B s.2.2)) (Sum.map (fun s => (s.1, s.2.1, cw B s.2.2)) (hf B))) (Sum.elim (fun s : Int × Int × cM => cOK B τ s.2.2.2) (Sum.elim (fun s : Int × Int × cM => cOK B τ s.2.2.2) (hp B τ))) (f_X8_unwind_100_b (cad B 8 0) x2 x3 x4 x5 x6 x7 (cw B μ)) (h_X8_unwind_100_b x2 x3 x4 x5 x6 x7 μ) := by
  unfold f_X8_unwind_100_b h_X8_unwind_100_b
  refine hx_if ?_ ?_
  · exact hx_map (eh_X8_unwind_244 h) (fun r => rfl) (fun r q => q)
  · refine he_gr h (f := 800) (c := 8) (o := 0) ⟨by decide, by decide⟩ rfl ?_
    refine he_gA h (f := 216) (c := 2) (o := 0) ⟨rfl, by decide⟩ rfl ?_
    refine he_ga h (f := 216) (o := 0) ⟨⟨rfl, by decide, by decide⟩, rfl⟩ (fun v3 => ?_)
    refine hx_let (fun y4 => ?_)
    refine he_gA h (f := 803) (c := 8) (o := 0) ⟨rfl, by decide⟩ rfl ?_
    refine he_ga h (f := 803) (o := 0) ⟨⟨rfl, by decide, by decide⟩, rfl⟩ (fun v6 => ?_)
    refine hx_let (fun y7 => ?_)
    exact (eh_X8_unwind_146 h)
noncomputable def h_X8_unwind_100 (x2 x3 x4 x5 x6 x7 : Int) (μ : cM) : Option ((Int × Int × cM) ⊕ cO) :=
  zloop (fun s : Int × Int × cM => h_X8_unwind_100_b x2 x3 s.1 x5 x6 s.2.1 s.2.2) (x4, x7, μ)
theorem eh_X8_unwind_100 {B : Nat} {τ : zM} {x2 x3 x4 x5 x6 x7 : Int} {μ : cM} (h : cOK B τ μ.2) : hR (Sum.map (fun s => (s.1, s.2.1, cw B s.2.2)) (hf B)) (Sum.elim (fun s : Int × Int × cM => cOK B τ s.2.2.2) (hp B τ)) (f_X8_unwind_100 (cad B 8 0) x2 x3 x4 x5 x6 x7 (cw B μ)) (h_X8_unwind_100 x2 x3 x4 x5 x6 x7 μ) := by
  unfold f_X8_unwind_100 h_X8_unwind_100
  refine hx_loop (φ := (fun s => (s.1, s.2.1, cw B s.2.2))) (Ps := (fun s : Int × Int × cM => cOK B τ s.2.2.2)) (s := (x4, x7, μ)) h (fun s hs => ?_)
  exact eh_X8_unwind_100_b hs
noncomputable def h_X8_unwind_60_b (x2 x3 x4 : Int) (μ : cM) : Option ((Int × Int × cM) ⊕ cO) :=
  if x4 ≤ x3 then
    (h_X8_unwind_250 μ).map (fun r => (.inr r))
  else
    (hga μ 817 0 x3).bind fun v2 =>
    zlet ((zdiv v2 8)) fun y3 =>
    (hga μ 817 0 x3).bind fun v5 =>
    zlet ((zrem v5 8)) fun y6 =>
    (hga μ 805 0 (zdiv y3 8)).bind fun v8 =>
    h_X8_unwind_100 x2 x3 x4 y3 y6 v8 μ
theorem eh_X8_unwind_60_b {B : Nat} {τ : zM} {x2 x3 x4 : Int} {μ : cM} (h : cOK B τ μ.2) : hR (Sum.map (fun s => (s.1, s.2.1, cw B s.2.2)) (hf B)) (Sum.elim (fun s : Int × Int × cM => cOK B τ s.2.2.2) (hp B τ)) (f_X8_unwind_60_b (cad B 8 0) x2 x3 x4 (cw B μ)) (h_X8_unwind_60_b x2 x3 x4 μ) := by
  unfold f_X8_unwind_60_b h_X8_unwind_60_b
  refine hx_if ?_ ?_
  · exact hx_map (eh_X8_unwind_250 h) (fun r => rfl) (fun r q => q)
  · refine he_gA h (f := 817) (c := 8) (o := 0) ⟨rfl, by decide⟩ rfl ?_
    refine he_ga h (f := 817) (o := 0) ⟨⟨rfl, by decide, by decide⟩, rfl⟩ (fun v2 => ?_)
    refine hx_let (fun y3 => ?_)
    refine he_gA h (f := 817) (c := 8) (o := 0) ⟨rfl, by decide⟩ rfl ?_
    refine he_ga h (f := 817) (o := 0) ⟨⟨rfl, by decide, by decide⟩, rfl⟩ (fun v5 => ?_)
    refine hx_let (fun y6 => ?_)
    refine he_gA h (f := 805) (c := 8) (o := 0) ⟨rfl, by decide⟩ rfl ?_
    refine he_ga h (f := 805) (o := 0) ⟨⟨rfl, by decide, by decide⟩, rfl⟩ (fun v8 => ?_)
    exact (eh_X8_unwind_100 h)
noncomputable def h_X8_unwind_60 (x2 x3 x4 : Int) (μ : cM) : Option cO :=
  zloop (fun s : Int × Int × cM => h_X8_unwind_60_b x2 s.1 s.2.1 s.2.2) (x3, x4, μ)
theorem eh_X8_unwind_60 {B : Nat} {τ : zM} {x2 x3 x4 : Int} {μ : cM} (h : cOK B τ μ.2) : hR (hf B) (hp B τ) (f_X8_unwind_60 (cad B 8 0) x2 x3 x4 (cw B μ)) (h_X8_unwind_60 x2 x3 x4 μ) := by
  unfold f_X8_unwind_60 h_X8_unwind_60
  refine hx_loop (φ := (fun s => (s.1, s.2.1, cw B s.2.2))) (Ps := (fun s : Int × Int × cM => cOK B τ s.2.2.2)) (s := (x3, x4, μ)) h (fun s hs => ?_)
  exact eh_X8_unwind_60_b hs
noncomputable def h_X8_unwind_31 (x1 x2 : Int) (μ : cM) : Option cO :=
  (hpa μ 817 0 0 (zadd (zmul 8 x1) x2)).bind fun μ2 =>
  (hga μ2 817 0 0).bind fun v5 =>
  (hpa μ2 816 0 v5 0).bind fun μ6 =>
  h_X8_unwind_60 x2 0 1 μ6
theorem eh_X8_unwind_31 {B : Nat} {τ : zM} {x1 x2 : Int} {μ : cM} (h : cOK B τ μ.2) : hR (hf B) (hp B τ) (f_X8_unwind_31 (cad B 8 0) x1 x2 (cw B μ)) (h_X8_unwind_31 x1 x2 μ) := by
  unfold f_X8_unwind_31 h_X8_unwind_31
  refine he_gA h (f := 817) (c := 8) (o := 0) ⟨rfl, by decide⟩ rfl ?_
  refine he_pa h (f := 817) (o := 0) ⟨⟨rfl, by decide, by decide⟩, rfl⟩ (fun μ2 h => ?_)
  refine he_gA h (f := 816) (c := 8) (o := 0) ⟨rfl, by decide⟩ rfl ?_
  refine he_gA h (f := 817) (c := 8) (o := 0) ⟨rfl, by decide⟩ rfl ?_
  refine he_ga h (f := 817) (o := 0) ⟨⟨rfl, by decide, by decide⟩, rfl⟩ (fun v5 => ?_)
  refine he_pa h (f := 816) (o := 0) ⟨⟨rfl, by decide, by decide⟩, rfl⟩ (fun μ6 h => ?_)
  exact (eh_X8_unwind_60 h)
noncomputable def h_X8_unwind_2_b (x1 x2 x3 : Int) (μ : cM) : Option ((Int × cM) ⊕ cO) :=
  zlet (hG μ 220 0) fun v2 =>
  if (zmul 64 v2) ≤ x3 then
    (h_X8_unwind_31 x1 x2 μ).map (fun r => (.inr r))
  else
    (hpa μ 816 0 x3 30000).bind fun μ4 =>
    zlet (zadd x3 1) fun y5 =>
    some (.inl (y5, μ4))
theorem eh_X8_unwind_2_b {B : Nat} {τ : zM} {x1 x2 x3 : Int} {μ : cM} (h : cOK B τ μ.2) : hR (Sum.map (fun s => (s.1, cw B s.2)) (hf B)) (Sum.elim (fun s : Int × cM => cOK B τ s.2.2) (hp B τ)) (f_X8_unwind_2_b (cad B 8 0) x1 x2 x3 (cw B μ)) (h_X8_unwind_2_b x1 x2 x3 μ) := by
  unfold f_X8_unwind_2_b h_X8_unwind_2_b
  refine he_gr h (f := 800) (c := 8) (o := 0) ⟨by decide, by decide⟩ rfl ?_
  refine he_gs h (f := 220) (c := 2) (o := 0) ⟨rfl, by decide, by decide⟩ rfl (fun v2 => ?_)
  refine hx_if ?_ ?_
  · exact hx_map (eh_X8_unwind_31 h) (fun r => rfl) (fun r q => q)
  · refine he_gA h (f := 816) (c := 8) (o := 0) ⟨rfl, by decide⟩ rfl ?_
    refine he_pa h (f := 816) (o := 0) ⟨⟨rfl, by decide, by decide⟩, rfl⟩ (fun μ4 h => ?_)
    refine hx_let (fun y5 => ?_)
    first | exact hx_some rfl h | exact hx_some rfl trivial
noncomputable def h_X8_unwind_2 (x1 x2 x3 : Int) (μ : cM) : Option cO :=
  zloop (fun s : Int × cM => h_X8_unwind_2_b x1 x2 s.1 s.2) (x3, μ)
theorem eh_X8_unwind_2 {B : Nat} {τ : zM} {x1 x2 x3 : Int} {μ : cM} (h : cOK B τ μ.2) : hR (hf B) (hp B τ) (f_X8_unwind_2 (cad B 8 0) x1 x2 x3 (cw B μ)) (h_X8_unwind_2 x1 x2 x3 μ) := by
  unfold f_X8_unwind_2 h_X8_unwind_2
  refine hx_loop (φ := (fun s => (s.1, cw B s.2))) (Ps := (fun s : Int × cM => cOK B τ s.2.2)) (s := (x3, μ)) h (fun s hs => ?_)
  exact eh_X8_unwind_2_b hs
noncomputable def h_X8_unwind (x1 x2 : Int) (μ : cM) : Option cO :=
  h_X8_unwind_2 x1 x2 0 μ
theorem eh_X8_unwind {B : Nat} {τ : zM} {x1 x2 : Int} {μ : cM} (h : cOK B τ μ.2) : hR (hf B) (hp B τ) (f_X8_unwind (cad B 8 0) x1 x2 (cw B μ)) (h_X8_unwind x1 x2 μ) := by
  unfold f_X8_unwind h_X8_unwind
  exact (eh_X8_unwind_2 h)
noncomputable def h_X8_best_128 (x4 : Int) (μ : cM) : Option cO :=
  some (0, zi x4, μ)
theorem eh_X8_best_128 {B : Nat} {τ : zM} {x4 : Int} {μ : cM} (h : cOK B τ μ.2) : hR (hf B) (hp B τ) (f_X8_best_128 x4 (cw B μ)) (h_X8_best_128 x4 μ) := by
  unfold f_X8_best_128 h_X8_best_128
  first | exact hx_some rfl h | exact hx_some rfl trivial
noncomputable def h_X8_best_122 (x1 x4 x5 x6 x7 : Int) (μ : cM) : Option ((Int × Int × cM) ⊕ cO) :=
  zlet (zadd x7 1) fun y1 =>
  some (.inl (x4, y1, μ))
theorem eh_X8_best_122 {B : Nat} {τ : zM} {x1 x4 x5 x6 x7 : Int} {μ : cM} (h : cOK B τ μ.2) : hR (Sum.map (fun s => (s.1, s.2.1, cw B s.2.2)) (hf B)) (Sum.elim (fun s : Int × Int × cM => cOK B τ s.2.2.2) (hp B τ)) (f_X8_best_122 (cad B 8 0) x1 x4 x5 x6 x7 (cw B μ)) (h_X8_best_122 x1 x4 x5 x6 x7 μ) := by
  unfold f_X8_best_122 h_X8_best_122
  refine hx_let (fun y1 => ?_)
  first | exact hx_some rfl h | exact hx_some rfl trivial
noncomputable def h_X8_best_116 (x1 x4 x5 x6 x7 x8 : Int) (μ : cM) : Option ((Int × Int × cM) ⊕ ((Int × Int × cM) ⊕ cO)) :=
  zlet (zadd x8 1) fun y1 =>
  some (.inl (x4, y1, μ))
theorem eh_X8_best_116 {B : Nat} {τ : zM} {x1 x4 x5 x6 x7 x8 : Int} {μ : cM} (h : cOK B τ μ.2) : hR (Sum.map (fun s => (s.1, s.2.1, cw B s.2.2)) (Sum.map (fun s => (s.1, s.2.1, cw B s.2.2)) (hf B))) (Sum.elim (fun s : Int × Int × cM => cOK B τ s.2.2.2) (Sum.elim (fun s : Int × Int × cM => cOK B τ s.2.2.2) (hp B τ))) (f_X8_best_116 (cad B 8 0) x1 x4 x5 x6 x7 x8 (cw B μ)) (h_X8_best_116 x1 x4 x5 x6 x7 x8 μ) := by
  unfold f_X8_best_116 h_X8_best_116
  refine hx_let (fun y1 => ?_)
  first | exact hx_some rfl h | exact hx_some rfl trivial
noncomputable def h_X8_best_48_b (x1 x4 x5 x6 x7 x8 : Int) (μ : cM) : Option ((Int × Int × cM) ⊕ ((Int × Int × cM) ⊕ cO)) :=
  hci (h_X8_kinds μ) fun v1 μ2 =>
  if v1 ≤ x8 then
    (h_X8_best_122 x1 x4 x5 x6 x7 μ2).map (fun r => (.inr r))
  else
    (hga μ2 803 0 (zadd x6 x7)).bind fun v4 =>
    if (zlcmp (jand (jshr x1 (zadd (zmul 8 v4) x8)) 1) 1) ≠ 0 then
      h_X8_best_116 x1 x4 x5 x6 x7 x8 μ2
    else
      (hga μ2 804 0 (zadd x5 x7)).bind fun v7 =>
      (hga μ2 816 0 (zadd (zmul 8 (zadd x5 x7)) (zor x8 v7))).bind fun v8 =>
      zlet (if v8 < x4 then v8 else x4) fun y9 =>
      h_X8_best_116 x1 y9 x5 x6 x7 x8 μ2
theorem eh_X8_best_48_b {B : Nat} {τ : zM} {x1 x4 x5 x6 x7 x8 : Int} {μ : cM} (h : cOK B τ μ.2) : hR (Sum.map (fun s => (s.1, s.2.1, cw B s.2.2)) (Sum.map (fun s => (s.1, s.2.1, cw B s.2.2)) (hf B))) (Sum.elim (fun s : Int × Int × cM => cOK B τ s.2.2.2) (Sum.elim (fun s : Int × Int × cM => cOK B τ s.2.2.2) (hp B τ))) (f_X8_best_48_b (cad B 8 0) x1 x4 x5 x6 x7 x8 (cw B μ)) (h_X8_best_48_b x1 x4 x5 x6 x7 x8 μ) := by
  unfold f_X8_best_48_b h_X8_best_48_b
  refine hx_is h ⟨rfl, by decide, by decide⟩ ?_
  refine hx_ci (eh_X8_kinds h) (fun v1 μ2 h => ?_)
  refine hx_if ?_ ?_
  · exact hx_map (eh_X8_best_122 h) (fun r => rfl) (fun r q => q)
  · refine he_gA h (f := 803) (c := 8) (o := 0) ⟨rfl, by decide⟩ rfl ?_
    refine he_ga h (f := 803) (o := 0) ⟨⟨rfl, by decide, by decide⟩, rfl⟩ (fun v4 => ?_)
    refine hx_if ?_ ?_
    · exact (eh_X8_best_116 h)
    · refine he_gA h (f := 816) (c := 8) (o := 0) ⟨rfl, by decide⟩ rfl ?_
      refine he_gA h (f := 804) (c := 8) (o := 0) ⟨rfl, by decide⟩ rfl ?_
      refine he_ga h (f := 804) (o := 0) ⟨⟨rfl, by decide, by decide⟩, rfl⟩ (fun v7 => ?_)
      refine he_ga h (f := 816) (o := 0) ⟨⟨rfl, by decide, by decide⟩, rfl⟩ (fun v8 => ?_)
      refine hx_let (fun y9 => ?_)
      exact (eh_X8_best_116 h)
noncomputable def h_X8_best_48 (x1 x4 x5 x6 x7 x8 : Int) (μ : cM) : Option ((Int × Int × cM) ⊕ cO) :=
  zloop (fun s : Int × Int × cM => h_X8_best_48_b x1 s.1 x5 x6 x7 s.2.1 s.2.2) (x4, x8, μ)
theorem eh_X8_best_48 {B : Nat} {τ : zM} {x1 x4 x5 x6 x7 x8 : Int} {μ : cM} (h : cOK B τ μ.2) : hR (Sum.map (fun s => (s.1, s.2.1, cw B s.2.2)) (hf B)) (Sum.elim (fun s : Int × Int × cM => cOK B τ s.2.2.2) (hp B τ)) (f_X8_best_48 (cad B 8 0) x1 x4 x5 x6 x7 x8 (cw B μ)) (h_X8_best_48 x1 x4 x5 x6 x7 x8 μ) := by
  unfold f_X8_best_48 h_X8_best_48
  refine hx_loop (φ := (fun s => (s.1, s.2.1, cw B s.2.2))) (Ps := (fun s : Int × Int × cM => cOK B τ s.2.2.2)) (s := (x4, x8, μ)) h (fun s hs => ?_)
  exact eh_X8_best_48_b hs
noncomputable def h_X8_best_36_b (x1 x4 x5 x6 x7 : Int) (μ : cM) : Option ((Int × Int × cM) ⊕ cO) :=
  hci (h_X8_kinds μ) fun v1 μ2 =>
  if v1 ≤ x7 then
    (h_X8_best_128 x4 μ2).map (fun r => (.inr r))
  else
    h_X8_best_48 x1 x4 x5 x6 x7 0 μ2
theorem eh_X8_best_36_b {B : Nat} {τ : zM} {x1 x4 x5 x6 x7 : Int} {μ : cM} (h : cOK B τ μ.2) : hR (Sum.map (fun s => (s.1, s.2.1, cw B s.2.2)) (hf B)) (Sum.elim (fun s : Int × Int × cM => cOK B τ s.2.2.2) (hp B τ)) (f_X8_best_36_b (cad B 8 0) x1 x4 x5 x6 x7 (cw B μ)) (h_X8_best_36_b x1 x4 x5 x6 x7 μ) := by
  unfold f_X8_best_36_b h_X8_best_36_b
  refine hx_is h ⟨rfl, by decide, by decide⟩ ?_
  refine hx_ci (eh_X8_kinds h) (fun v1 μ2 h => ?_)
  refine hx_if ?_ ?_
  · exact hx_map (eh_X8_best_128 h) (fun r => rfl) (fun r q => q)
  · exact (eh_X8_best_48 h)
noncomputable def h_X8_best_36 (x1 x4 x5 x6 x7 : Int) (μ : cM) : Option cO :=
  zloop (fun s : Int × Int × cM => h_X8_best_36_b x1 s.1 x5 x6 s.2.1 s.2.2) (x4, x7, μ)
theorem eh_X8_best_36 {B : Nat} {τ : zM} {x1 x4 x5 x6 x7 : Int} {μ : cM} (h : cOK B τ μ.2) : hR (hf B) (hp B τ) (f_X8_best_36 (cad B 8 0) x1 x4 x5 x6 x7 (cw B μ)) (h_X8_best_36 x1 x4 x5 x6 x7 μ) := by
  unfold f_X8_best_36 h_X8_best_36
  refine hx_loop (φ := (fun s => (s.1, s.2.1, cw B s.2.2))) (Ps := (fun s : Int × Int × cM => cOK B τ s.2.2.2)) (s := (x4, x7, μ)) h (fun s hs => ?_)
  exact eh_X8_best_36_b hs
noncomputable def h_X8_best (x1 x3 : Int) (μ : cM) : Option cO :=
  (hga μ 217 0 x3).bind fun v3 =>
  zlet ((zmul 8 v3)) fun y4 =>
  (hga μ 216 0 x3).bind fun v7 =>
  zlet ((zmul 8 v7)) fun y8 =>
  h_X8_best_36 x1 30000 y4 y8 0 μ
theorem eh_X8_best {B : Nat} {τ : zM} {x1 x3 : Int} {μ : cM} (h : cOK B τ μ.2) : hR (hf B) (hp B τ) (f_X8_best (cad B 8 0) x1 x3 (cw B μ)) (h_X8_best x1 x3 μ) := by
  unfold f_X8_best h_X8_best
  refine he_gr h (f := 800) (c := 8) (o := 0) ⟨by decide, by decide⟩ rfl ?_
  refine he_gA h (f := 217) (c := 2) (o := 0) ⟨rfl, by decide⟩ rfl ?_
  refine he_ga h (f := 217) (o := 0) ⟨⟨rfl, by decide, by decide⟩, rfl⟩ (fun v3 => ?_)
  refine hx_let (fun y4 => ?_)
  refine he_gr h (f := 800) (c := 8) (o := 0) ⟨by decide, by decide⟩ rfl ?_
  refine he_gA h (f := 216) (c := 2) (o := 0) ⟨rfl, by decide⟩ rfl ?_
  refine he_ga h (f := 216) (o := 0) ⟨⟨rfl, by decide, by decide⟩, rfl⟩ (fun v7 => ?_)
  refine hx_let (fun y8 => ?_)
  exact (eh_X8_best_36 h)
noncomputable def h_X8_led_143 (x5 : Int) (μ : cM) : Option cO :=
  some (0, zj x5, μ)
theorem eh_X8_led_143 {B : Nat} {τ : zM} {x5 : Int} {μ : cM} (h : cOK B τ μ.2) : hR (hf B) (hp B τ) (f_X8_led_143 x5 (cw B μ)) (h_X8_led_143 x5 μ) := by
  unfold f_X8_led_143 h_X8_led_143
  first | exact hx_some rfl h | exact hx_some rfl trivial
noncomputable def h_X8_led_137 (x1 x4 x5 x7 x8 x9 : Int) (μ : cM) : Option ((Int × Int × cM) ⊕ cO) :=
  zlet (zadd x9 1) fun y1 =>
  some (.inl (x5, y1, μ))
theorem eh_X8_led_137 {B : Nat} {τ : zM} {x1 x4 x5 x7 x8 x9 : Int} {μ : cM} (h : cOK B τ μ.2) : hR (Sum.map (fun s => (s.1, s.2.1, cw B s.2.2)) (hf B)) (Sum.elim (fun s : Int × Int × cM => cOK B τ s.2.2.2) (hp B τ)) (f_X8_led_137 (cad B 8 0) x1 x4 x5 x7 x8 x9 (cw B μ)) (h_X8_led_137 x1 x4 x5 x7 x8 x9 μ) := by
  unfold f_X8_led_137 h_X8_led_137
  refine hx_let (fun y1 => ?_)
  first | exact hx_some rfl h | exact hx_some rfl trivial
noncomputable def h_X8_led_131 (x1 x4 x5 x7 x8 x9 x10 : Int) (μ : cM) : Option ((Int × Int × cM) ⊕ ((Int × Int × cM) ⊕ cO)) :=
  zlet (zadd x10 1) fun y1 =>
  some (.inl (x5, y1, μ))
theorem eh_X8_led_131 {B : Nat} {τ : zM} {x1 x4 x5 x7 x8 x9 x10 : Int} {μ : cM} (h : cOK B τ μ.2) : hR (Sum.map (fun s => (s.1, s.2.1, cw B s.2.2)) (Sum.map (fun s => (s.1, s.2.1, cw B s.2.2)) (hf B))) (Sum.elim (fun s : Int × Int × cM => cOK B τ s.2.2.2) (Sum.elim (fun s : Int × Int × cM => cOK B τ s.2.2.2) (hp B τ))) (f_X8_led_131 (cad B 8 0) x1 x4 x5 x7 x8 x9 x10 (cw B μ)) (h_X8_led_131 x1 x4 x5 x7 x8 x9 x10 μ) := by
  unfold f_X8_led_131 h_X8_led_131
  refine hx_let (fun y1 => ?_)
  first | exact hx_some rfl h | exact hx_some rfl trivial
noncomputable def h_X8_led_46_b (x1 x4 x5 x7 x8 x9 x10 : Int) (μ : cM) : Option ((Int × Int × cM) ⊕ ((Int × Int × cM) ⊕ cO)) :=
  hci (h_X8_kinds μ) fun v1 μ2 =>
  if v1 ≤ x10 then
    (h_X8_led_137 x1 x4 x5 x7 x8 x9 μ2).map (fun r => (.inr r))
  else
    (hga μ2 804 0 (zadd x7 x9)).bind fun v4 =>
    zlet ((zor x10 v4)) fun y5 =>
    (hga μ2 803 0 (zadd x8 x9)).bind fun v7 =>
    if (zlcmp (jand (jshr x1 (zadd (zmul 8 v7) x10)) 1) 1) ≠ 0 then
      h_X8_led_131 x1 x4 x5 x7 x8 x9 x10 μ2
    else
      (hga μ2 816 0 (zadd (zmul 8 (zadd x7 x9)) y5)).bind fun v9 =>
      if v9 ≠ x4 then
        h_X8_led_131 x1 x4 x5 x7 x8 x9 x10 μ2
      else
        zlet ((jor x5 (jshl 1 (zadd (zmul 8 x9) y5)))) fun y10 =>
        h_X8_led_131 x1 x4 y10 x7 x8 x9 x10 μ2
theorem eh_X8_led_46_b {B : Nat} {τ : zM} {x1 x4 x5 x7 x8 x9 x10 : Int} {μ : cM} (h : cOK B τ μ.2) : hR (Sum.map (fun s => (s.1, s.2.1, cw B s.2.2)) (Sum.map (fun s => (s.1, s.2.1, cw B s.2.2)) (hf B))) (Sum.elim (fun s : Int × Int × cM => cOK B τ s.2.2.2) (Sum.elim (fun s : Int × Int × cM => cOK B τ s.2.2.2) (hp B τ))) (f_X8_led_46_b (cad B 8 0) x1 x4 x5 x7 x8 x9 x10 (cw B μ)) (h_X8_led_46_b x1 x4 x5 x7 x8 x9 x10 μ) := by
  unfold f_X8_led_46_b h_X8_led_46_b
  refine hx_is h ⟨rfl, by decide, by decide⟩ ?_
  refine hx_ci (eh_X8_kinds h) (fun v1 μ2 h => ?_)
  refine hx_if ?_ ?_
  · exact hx_map (eh_X8_led_137 h) (fun r => rfl) (fun r q => q)
  · refine he_gA h (f := 804) (c := 8) (o := 0) ⟨rfl, by decide⟩ rfl ?_
    refine he_ga h (f := 804) (o := 0) ⟨⟨rfl, by decide, by decide⟩, rfl⟩ (fun v4 => ?_)
    refine hx_let (fun y5 => ?_)
    refine he_gA h (f := 803) (c := 8) (o := 0) ⟨rfl, by decide⟩ rfl ?_
    refine he_ga h (f := 803) (o := 0) ⟨⟨rfl, by decide, by decide⟩, rfl⟩ (fun v7 => ?_)
    refine hx_if ?_ ?_
    · exact (eh_X8_led_131 h)
    · refine he_gA h (f := 816) (c := 8) (o := 0) ⟨rfl, by decide⟩ rfl ?_
      refine he_ga h (f := 816) (o := 0) ⟨⟨rfl, by decide, by decide⟩, rfl⟩ (fun v9 => ?_)
      refine hx_if ?_ ?_
      · exact (eh_X8_led_131 h)
      · refine hx_let (fun y10 => ?_)
        exact (eh_X8_led_131 h)
noncomputable def h_X8_led_46 (x1 x4 x5 x7 x8 x9 x10 : Int) (μ : cM) : Option ((Int × Int × cM) ⊕ cO) :=
  zloop (fun s : Int × Int × cM => h_X8_led_46_b x1 x4 s.1 x7 x8 x9 s.2.1 s.2.2) (x5, x10, μ)
theorem eh_X8_led_46 {B : Nat} {τ : zM} {x1 x4 x5 x7 x8 x9 x10 : Int} {μ : cM} (h : cOK B τ μ.2) : hR (Sum.map (fun s => (s.1, s.2.1, cw B s.2.2)) (hf B)) (Sum.elim (fun s : Int × Int × cM => cOK B τ s.2.2.2) (hp B τ)) (f_X8_led_46 (cad B 8 0) x1 x4 x5 x7 x8 x9 x10 (cw B μ)) (h_X8_led_46 x1 x4 x5 x7 x8 x9 x10 μ) := by
  unfold f_X8_led_46 h_X8_led_46
  refine hx_loop (φ := (fun s => (s.1, s.2.1, cw B s.2.2))) (Ps := (fun s : Int × Int × cM => cOK B τ s.2.2.2)) (s := (x5, x10, μ)) h (fun s hs => ?_)
  exact eh_X8_led_46_b hs
noncomputable def h_X8_led_34_b (x1 x4 x5 x7 x8 x9 : Int) (μ : cM) : Option ((Int × Int × cM) ⊕ cO) :=
  hci (h_X8_kinds μ) fun v1 μ2 =>
  if v1 ≤ x9 then
    (h_X8_led_143 x5 μ2).map (fun r => (.inr r))
  else
    h_X8_led_46 x1 x4 x5 x7 x8 x9 0 μ2
theorem eh_X8_led_34_b {B : Nat} {τ : zM} {x1 x4 x5 x7 x8 x9 : Int} {μ : cM} (h : cOK B τ μ.2) : hR (Sum.map (fun s => (s.1, s.2.1, cw B s.2.2)) (hf B)) (Sum.elim (fun s : Int × Int × cM => cOK B τ s.2.2.2) (hp B τ)) (f_X8_led_34_b (cad B 8 0) x1 x4 x5 x7 x8 x9 (cw B μ)) (h_X8_led_34_b x1 x4 x5 x7 x8 x9 μ) := by
  unfold f_X8_led_34_b h_X8_led_34_b
  refine hx_is h ⟨rfl, by decide, by decide⟩ ?_
  refine hx_ci (eh_X8_kinds h) (fun v1 μ2 h => ?_)
  refine hx_if ?_ ?_
  · exact hx_map (eh_X8_led_143 h) (fun r => rfl) (fun r q => q)
  · exact (eh_X8_led_46 h)
noncomputable def h_X8_led_34 (x1 x4 x5 x7 x8 x9 : Int) (μ : cM) : Option cO :=
  zloop (fun s : Int × Int × cM => h_X8_led_34_b x1 x4 s.1 x7 x8 s.2.1 s.2.2) (x5, x9, μ)
theorem eh_X8_led_34 {B : Nat} {τ : zM} {x1 x4 x5 x7 x8 x9 : Int} {μ : cM} (h : cOK B τ μ.2) : hR (hf B) (hp B τ) (f_X8_led_34 (cad B 8 0) x1 x4 x5 x7 x8 x9 (cw B μ)) (h_X8_led_34 x1 x4 x5 x7 x8 x9 μ) := by
  unfold f_X8_led_34 h_X8_led_34
  refine hx_loop (φ := (fun s => (s.1, s.2.1, cw B s.2.2))) (Ps := (fun s : Int × Int × cM => cOK B τ s.2.2.2)) (s := (x5, x9, μ)) h (fun s hs => ?_)
  exact eh_X8_led_34_b hs
noncomputable def h_X8_led (x1 x3 x4 : Int) (μ : cM) : Option cO :=
  (hga μ 217 0 x3).bind fun v3 =>
  zlet ((zmul 8 v3)) fun y4 =>
  (hga μ 216 0 x3).bind fun v7 =>
  zlet ((zmul 8 v7)) fun y8 =>
  h_X8_led_34 x1 x4 0 y4 y8 0 μ
theorem eh_X8_led {B : Nat} {τ : zM} {x1 x3 x4 : Int} {μ : cM} (h : cOK B τ μ.2) : hR (hf B) (hp B τ) (f_X8_led (cad B 8 0) x1 x3 x4 (cw B μ)) (h_X8_led x1 x3 x4 μ) := by
  unfold f_X8_led h_X8_led
  refine he_gr h (f := 800) (c := 8) (o := 0) ⟨by decide, by decide⟩ rfl ?_
  refine he_gA h (f := 217) (c := 2) (o := 0) ⟨rfl, by decide⟩ rfl ?_
  refine he_ga h (f := 217) (o := 0) ⟨⟨rfl, by decide, by decide⟩, rfl⟩ (fun v3 => ?_)
  refine hx_let (fun y4 => ?_)
  refine he_gr h (f := 800) (c := 8) (o := 0) ⟨by decide, by decide⟩ rfl ?_
  refine he_gA h (f := 216) (c := 2) (o := 0) ⟨rfl, by decide⟩ rfl ?_
  refine he_ga h (f := 216) (o := 0) ⟨⟨rfl, by decide, by decide⟩, rfl⟩ (fun v7 => ?_)
  refine hx_let (fun y8 => ?_)
  exact (eh_X8_led_34 h)
noncomputable def h_X8_turn_108 (μ : cM) : Option cO :=
  some (0, ((3, 0) : zV), μ)
theorem eh_X8_turn_108 {B : Nat} {τ : zM} {μ : cM} (h : cOK B τ μ.2) : hR (hf B) (hp B τ) (f_X8_turn_108  (cw B μ)) (h_X8_turn_108  μ) := by
  unfold f_X8_turn_108 h_X8_turn_108
  first | exact hx_some rfl h | exact hx_some rfl trivial
noncomputable def h_X8_turn_356 (μ : cM) : Option cO :=
  some (0, ((3, 0) : zV), μ)
theorem eh_X8_turn_356 {B : Nat} {τ : zM} {μ : cM} (h : cOK B τ μ.2) : hR (hf B) (hp B τ) (f_X8_turn_356  (cw B μ)) (h_X8_turn_356  μ) := by
  unfold f_X8_turn_356 h_X8_turn_356
  first | exact hx_some rfl h | exact hx_some rfl trivial
noncomputable def h_X8_turn_329_b (x5 x10 : Int) (μ : cM) : Option ((Int × cM) ⊕ cO) :=
  if x5 ≤ x10 then
    (h_X8_turn_356 μ).map (fun r => (.inr r))
  else
    (hga μ 820 0 x10).bind fun v3 =>
    (hpa μ 819 0 x10 v3).bind fun μ4 =>
    zlet (zadd x10 1) fun y5 =>
    some (.inl (y5, μ4))
theorem eh_X8_turn_329_b {B : Nat} {τ : zM} {x5 x10 : Int} {μ : cM} (h : cOK B τ μ.2) : hR (Sum.map (fun s => (s.1, cw B s.2)) (hf B)) (Sum.elim (fun s : Int × cM => cOK B τ s.2.2) (hp B τ)) (f_X8_turn_329_b (cad B 8 0) x5 x10 (cw B μ)) (h_X8_turn_329_b x5 x10 μ) := by
  unfold f_X8_turn_329_b h_X8_turn_329_b
  refine hx_if ?_ ?_
  · exact hx_map (eh_X8_turn_356 h) (fun r => rfl) (fun r q => q)
  · refine he_gA h (f := 819) (c := 8) (o := 0) ⟨rfl, by decide⟩ rfl ?_
    refine he_gA h (f := 820) (c := 8) (o := 0) ⟨rfl, by decide⟩ rfl ?_
    refine he_ga h (f := 820) (o := 0) ⟨⟨rfl, by decide, by decide⟩, rfl⟩ (fun v3 => ?_)
    refine he_pa h (f := 819) (o := 0) ⟨⟨rfl, by decide, by decide⟩, rfl⟩ (fun μ4 h => ?_)
    refine hx_let (fun y5 => ?_)
    first | exact hx_some rfl h | exact hx_some rfl trivial
noncomputable def h_X8_turn_329 (x5 x10 : Int) (μ : cM) : Option cO :=
  zloop (fun s : Int × cM => h_X8_turn_329_b x5 s.1 s.2) (x10, μ)
theorem eh_X8_turn_329 {B : Nat} {τ : zM} {x5 x10 : Int} {μ : cM} (h : cOK B τ μ.2) : hR (hf B) (hp B τ) (f_X8_turn_329 (cad B 8 0) x5 x10 (cw B μ)) (h_X8_turn_329 x5 x10 μ) := by
  unfold f_X8_turn_329 h_X8_turn_329
  refine hx_loop (φ := (fun s => (s.1, cw B s.2))) (Ps := (fun s : Int × cM => cOK B τ s.2.2)) (s := (x10, μ)) h (fun s hs => ?_)
  exact eh_X8_turn_329_b hs
noncomputable def h_X8_turn_320 (x5 : Int) (μ : cM) : Option cO :=
  hwl (hS μ 822 0 x5) fun μ1 =>
  h_X8_turn_329 x5 0 μ1
theorem eh_X8_turn_320 {B : Nat} {τ : zM} {x5 : Int} {μ : cM} (h : cOK B τ μ.2) : hR (hf B) (hp B τ) (f_X8_turn_320 (cad B 8 0) x5 (cw B μ)) (h_X8_turn_320 x5 μ) := by
  unfold f_X8_turn_320 h_X8_turn_320
  refine he_ps h (f := 822) (c := 8) (o := 0) ⟨rfl, by decide, by decide⟩ rfl (fun μ1 h => ?_)
  exact (eh_X8_turn_329 h)
noncomputable def h_X8_turn_319 (μ : cM) : Option cO :=
  some (0, ((3, 0) : zV), μ)
theorem eh_X8_turn_319 {B : Nat} {τ : zM} {μ : cM} (h : cOK B τ μ.2) : hR (hf B) (hp B τ) (f_X8_turn_319  (cw B μ)) (h_X8_turn_319  μ) := by
  unfold f_X8_turn_319 h_X8_turn_319
  first | exact hx_some rfl h | exact hx_some rfl trivial
noncomputable def h_X8_turn_286 (x5 x9 : Int) (μ : cM) : Option cO :=
  zlet (hG μ 822 0) fun v1 =>
  if x5 ≠ v1 then
    h_X8_turn_320 x5 μ
  else
    if x9 = x5 then
      h_X8_turn_319 μ
    else
      (hga μ 820 0 x9).bind fun v3 =>
      (hga μ 819 0 x9).bind fun v5 =>
      if v3 ≤ v5 then
        h_X8_turn_320 x5 μ
      else
        h_X8_turn_319 μ
theorem eh_X8_turn_286 {B : Nat} {τ : zM} {x5 x9 : Int} {μ : cM} (h : cOK B τ μ.2) : hR (hf B) (hp B τ) (f_X8_turn_286 (cad B 8 0) x5 x9 (cw B μ)) (h_X8_turn_286 x5 x9 μ) := by
  unfold f_X8_turn_286 h_X8_turn_286
  refine he_gs h (f := 822) (c := 8) (o := 0) ⟨rfl, by decide, by decide⟩ rfl (fun v1 => ?_)
  refine hx_if ?_ ?_
  · exact (eh_X8_turn_320 h)
  · refine hx_if ?_ ?_
    · exact (eh_X8_turn_319 h)
    · refine he_gA h (f := 820) (c := 8) (o := 0) ⟨rfl, by decide⟩ rfl ?_
      refine he_ga h (f := 820) (o := 0) ⟨⟨rfl, by decide, by decide⟩, rfl⟩ (fun v3 => ?_)
      refine he_gA h (f := 819) (c := 8) (o := 0) ⟨rfl, by decide⟩ rfl ?_
      refine he_ga h (f := 819) (o := 0) ⟨⟨rfl, by decide, by decide⟩, rfl⟩ (fun v5 => ?_)
      refine hx_if ?_ ?_
      · exact (eh_X8_turn_320 h)
      · exact (eh_X8_turn_319 h)
noncomputable def h_X8_turn_247_b (x5 x9 : Int) (μ : cM) : Option ((Int) ⊕ cO) :=
  zlet (hG μ 822 0) fun v1 =>
  if x5 ≠ v1 then
    (h_X8_turn_286 x5 x9 μ).map (fun r => (.inr r))
  else
    if x5 ≤ x9 then
      (h_X8_turn_286 x5 x9 μ).map (fun r => (.inr r))
    else
      (hga μ 820 0 x9).bind fun v3 =>
      (hga μ 819 0 x9).bind fun v5 =>
      if v3 ≠ v5 then
        (h_X8_turn_286 x5 x9 μ).map (fun r => (.inr r))
      else
        zlet (zadd x9 1) fun y6 =>
        some (.inl y6)
theorem eh_X8_turn_247_b {B : Nat} {τ : zM} {x5 x9 : Int} {μ : cM} (h : cOK B τ μ.2) : hR (Sum.map id (hf B)) (Sum.elim (fun _ : Int => True) (hp B τ)) (f_X8_turn_247_b (cad B 8 0) x5 x9 (cw B μ)) (h_X8_turn_247_b x5 x9 μ) := by
  unfold f_X8_turn_247_b h_X8_turn_247_b
  refine he_gs h (f := 822) (c := 8) (o := 0) ⟨rfl, by decide, by decide⟩ rfl (fun v1 => ?_)
  refine hx_if ?_ ?_
  · exact hx_map (eh_X8_turn_286 h) (fun r => rfl) (fun r q => q)
  · refine hx_if ?_ ?_
    · exact hx_map (eh_X8_turn_286 h) (fun r => rfl) (fun r q => q)
    · refine he_gA h (f := 820) (c := 8) (o := 0) ⟨rfl, by decide⟩ rfl ?_
      refine he_ga h (f := 820) (o := 0) ⟨⟨rfl, by decide, by decide⟩, rfl⟩ (fun v3 => ?_)
      refine he_gA h (f := 819) (c := 8) (o := 0) ⟨rfl, by decide⟩ rfl ?_
      refine he_ga h (f := 819) (o := 0) ⟨⟨rfl, by decide, by decide⟩, rfl⟩ (fun v5 => ?_)
      refine hx_if ?_ ?_
      · exact hx_map (eh_X8_turn_286 h) (fun r => rfl) (fun r q => q)
      · refine hx_let (fun y6 => ?_)
        first | exact hx_some rfl h | exact hx_some rfl trivial
noncomputable def h_X8_turn_247 (x5 x9 : Int) (μ : cM) : Option cO :=
  zloop (fun s : Int => h_X8_turn_247_b x5 s μ) x9
theorem eh_X8_turn_247 {B : Nat} {τ : zM} {x5 x9 : Int} {μ : cM} (h : cOK B τ μ.2) : hR (hf B) (hp B τ) (f_X8_turn_247 (cad B 8 0) x5 x9 (cw B μ)) (h_X8_turn_247 x5 x9 μ) := by
  unfold f_X8_turn_247 h_X8_turn_247
  refine hx_loop (φ := id) (Ps := (fun _ : Int => True)) (s := x9) trivial (fun s hs => ?_)
  exact eh_X8_turn_247_b h
noncomputable def h_X8_turn_244 (x5 : Int) (μ : cM) : Option cO :=
  h_X8_turn_247 x5 0 μ
theorem eh_X8_turn_244 {B : Nat} {τ : zM} {x5 : Int} {μ : cM} (h : cOK B τ μ.2) : hR (hf B) (hp B τ) (f_X8_turn_244 (cad B 8 0) x5 (cw B μ)) (h_X8_turn_244 x5 μ) := by
  unfold f_X8_turn_244 h_X8_turn_244
  exact (eh_X8_turn_247 h)
noncomputable def h_X8_turn_189 (x5 x6 x7 x9 x10 : Int) (μ : cM) : Option ((Int × Int × Int × cM) ⊕ cO) :=
  hcj (h_X8_led x7 x10 (zsub (zsub x5 x9) 1) μ) fun v1 μ2 =>
  (hga μ2 215 0 x6).bind fun v6 =>
  (hpa μ2 820 0 x9 (zsub x10 v6)).bind fun μ7 =>
  (hga μ7 217 0 x10).bind fun v10 =>
  zlet (zadd x9 1) fun y11 =>
  some (.inl (v10, v1, y11, μ7))
theorem eh_X8_turn_189 {B : Nat} {τ : zM} {x5 x6 x7 x9 x10 : Int} {μ : cM} (h : cOK B τ μ.2) : hR (Sum.map (fun s => (s.1, s.2.1, s.2.2.1, cw B s.2.2.2)) (hf B)) (Sum.elim (fun s : Int × Int × Int × cM => cOK B τ s.2.2.2.2) (hp B τ)) (f_X8_turn_189 (cad B 8 0) x5 x6 x7 x9 x10 (cw B μ)) (h_X8_turn_189 x5 x6 x7 x9 x10 μ) := by
  unfold f_X8_turn_189 h_X8_turn_189
  refine hx_is h ⟨rfl, by decide, by decide⟩ ?_
  refine hx_cj (eh_X8_led h) (fun v1 μ2 h => ?_)
  refine he_gA h (f := 820) (c := 8) (o := 0) ⟨rfl, by decide⟩ rfl ?_
  refine he_gr h (f := 800) (c := 8) (o := 0) ⟨by decide, by decide⟩ rfl ?_
  refine he_gA h (f := 215) (c := 2) (o := 0) ⟨rfl, by decide⟩ rfl ?_
  refine he_ga h (f := 215) (o := 0) ⟨⟨rfl, by decide, by decide⟩, rfl⟩ (fun v6 => ?_)
  refine he_pa h (f := 820) (o := 0) ⟨⟨rfl, by decide, by decide⟩, rfl⟩ (fun μ7 h => ?_)
  refine he_gr h (f := 800) (c := 8) (o := 0) ⟨by decide, by decide⟩ rfl ?_
  refine he_gA h (f := 217) (c := 2) (o := 0) ⟨rfl, by decide⟩ rfl ?_
  refine he_ga h (f := 217) (o := 0) ⟨⟨rfl, by decide, by decide⟩, rfl⟩ (fun v10 => ?_)
  refine hx_let (fun y11 => ?_)
  first | exact hx_some rfl h | exact hx_some rfl trivial
noncomputable def h_X8_turn_146_b (x5 x6 x7 x9 x10 : Int) (μ : cM) : Option ((Int × cM) ⊕ ((Int × Int × Int × cM) ⊕ cO)) :=
  (hga μ 215 0 (zadd x6 1)).bind fun v3 =>
  if v3 ≤ (zadd x10 1) then
    (h_X8_turn_189 x5 x6 x7 x9 x10 μ).map (fun r => (.inr r))
  else
    hci (h_X8_best x7 x10 μ) fun v4 μ5 =>
    if v4 = (zsub (zsub x5 x9) 1) then
      (h_X8_turn_189 x5 x6 x7 x9 x10 μ5).map (fun r => (.inr r))
    else
      zlet (zadd x10 1) fun y6 =>
      some (.inl (y6, μ5))
theorem eh_X8_turn_146_b {B : Nat} {τ : zM} {x5 x6 x7 x9 x10 : Int} {μ : cM} (h : cOK B τ μ.2) : hR (Sum.map (fun s => (s.1, cw B s.2)) (Sum.map (fun s => (s.1, s.2.1, s.2.2.1, cw B s.2.2.2)) (hf B))) (Sum.elim (fun s : Int × cM => cOK B τ s.2.2) (Sum.elim (fun s : Int × Int × Int × cM => cOK B τ s.2.2.2.2) (hp B τ))) (f_X8_turn_146_b (cad B 8 0) x5 x6 x7 x9 x10 (cw B μ)) (h_X8_turn_146_b x5 x6 x7 x9 x10 μ) := by
  unfold f_X8_turn_146_b h_X8_turn_146_b
  refine he_gr h (f := 800) (c := 8) (o := 0) ⟨by decide, by decide⟩ rfl ?_
  refine he_gA h (f := 215) (c := 2) (o := 0) ⟨rfl, by decide⟩ rfl ?_
  refine he_ga h (f := 215) (o := 0) ⟨⟨rfl, by decide, by decide⟩, rfl⟩ (fun v3 => ?_)
  refine hx_if ?_ ?_
  · exact hx_map (eh_X8_turn_189 h) (fun r => rfl) (fun r q => q)
  · refine hx_is h ⟨rfl, by decide, by decide⟩ ?_
    refine hx_ci (eh_X8_best h) (fun v4 μ5 h => ?_)
    refine hx_if ?_ ?_
    · exact hx_map (eh_X8_turn_189 h) (fun r => rfl) (fun r q => q)
    · refine hx_let (fun y6 => ?_)
      first | exact hx_some rfl h | exact hx_some rfl trivial
noncomputable def h_X8_turn_146 (x5 x6 x7 x9 x10 : Int) (μ : cM) : Option ((Int × Int × Int × cM) ⊕ cO) :=
  zloop (fun s : Int × cM => h_X8_turn_146_b x5 x6 x7 x9 s.1 s.2) (x10, μ)
theorem eh_X8_turn_146 {B : Nat} {τ : zM} {x5 x6 x7 x9 x10 : Int} {μ : cM} (h : cOK B τ μ.2) : hR (Sum.map (fun s => (s.1, s.2.1, s.2.2.1, cw B s.2.2.2)) (hf B)) (Sum.elim (fun s : Int × Int × Int × cM => cOK B τ s.2.2.2.2) (hp B τ)) (f_X8_turn_146 (cad B 8 0) x5 x6 x7 x9 x10 (cw B μ)) (h_X8_turn_146 x5 x6 x7 x9 x10 μ) := by
  unfold f_X8_turn_146 h_X8_turn_146
  refine hx_loop (φ := (fun s => (s.1, cw B s.2))) (Ps := (fun s : Int × cM => cOK B τ s.2.2)) (s := (x10, μ)) h (fun s hs => ?_)
  exact eh_X8_turn_146_b hs
noncomputable def h_X8_turn_127_b (x5 x6 x7 x9 : Int) (μ : cM) : Option ((Int × Int × Int × cM) ⊕ cO) :=
  if x5 ≤ x9 then
    (h_X8_turn_244 x5 μ).map (fun r => (.inr r))
  else
    (hga μ 215 0 x6).bind fun v3 =>
    h_X8_turn_146 x5 x6 x7 x9 v3 μ
theorem eh_X8_turn_127_b {B : Nat} {τ : zM} {x5 x6 x7 x9 : Int} {μ : cM} (h : cOK B τ μ.2) : hR (Sum.map (fun s => (s.1, s.2.1, s.2.2.1, cw B s.2.2.2)) (hf B)) (Sum.elim (fun s : Int × Int × Int × cM => cOK B τ s.2.2.2.2) (hp B τ)) (f_X8_turn_127_b (cad B 8 0) x5 x6 x7 x9 (cw B μ)) (h_X8_turn_127_b x5 x6 x7 x9 μ) := by
  unfold f_X8_turn_127_b h_X8_turn_127_b
  refine hx_if ?_ ?_
  · exact hx_map (eh_X8_turn_244 h) (fun r => rfl) (fun r q => q)
  · refine he_gr h (f := 800) (c := 8) (o := 0) ⟨by decide, by decide⟩ rfl ?_
    refine he_gA h (f := 215) (c := 2) (o := 0) ⟨rfl, by decide⟩ rfl ?_
    refine he_ga h (f := 215) (o := 0) ⟨⟨rfl, by decide, by decide⟩, rfl⟩ (fun v3 => ?_)
    exact (eh_X8_turn_146 h)
noncomputable def h_X8_turn_127 (x5 x6 x7 x9 : Int) (μ : cM) : Option cO :=
  zloop (fun s : Int × Int × Int × cM => h_X8_turn_127_b x5 s.1 s.2.1 s.2.2.1 s.2.2.2) (x6, x7, x9, μ)
theorem eh_X8_turn_127 {B : Nat} {τ : zM} {x5 x6 x7 x9 : Int} {μ : cM} (h : cOK B τ μ.2) : hR (hf B) (hp B τ) (f_X8_turn_127 (cad B 8 0) x5 x6 x7 x9 (cw B μ)) (h_X8_turn_127 x5 x6 x7 x9 μ) := by
  unfold f_X8_turn_127 h_X8_turn_127
  refine hx_loop (φ := (fun s => (s.1, s.2.1, s.2.2.1, cw B s.2.2.2))) (Ps := (fun s : Int × Int × Int × cM => cOK B τ s.2.2.2.2)) (s := (x6, x7, x9, μ)) h (fun s hs => ?_)
  exact eh_X8_turn_127_b hs
noncomputable def h_X8_turn_91 (x2 x3 x5 x6 : Int) (μ : cM) : Option cO :=
  zlet (hG μ 822 0) fun v1 =>
  if v1 < x5 then
    h_X8_turn_108 μ
  else
    if x5 < 3840 then
      (hga μ 804 0 x3).bind fun v3 =>
      zlet ((jshl 1 (zadd (zmul 8 x2) v3))) fun y4 =>
      h_X8_turn_127 x5 x6 y4 0 μ
    else
      h_X8_turn_108 μ
theorem eh_X8_turn_91 {B : Nat} {τ : zM} {x2 x3 x5 x6 : Int} {μ : cM} (h : cOK B τ μ.2) : hR (hf B) (hp B τ) (f_X8_turn_91 (cad B 8 0) x2 x3 x5 x6 (cw B μ)) (h_X8_turn_91 x2 x3 x5 x6 μ) := by
  unfold f_X8_turn_91 h_X8_turn_91
  refine he_gs h (f := 822) (c := 8) (o := 0) ⟨rfl, by decide, by decide⟩ rfl (fun v1 => ?_)
  refine hx_if ?_ ?_
  · exact (eh_X8_turn_108 h)
  · refine hx_if ?_ ?_
    · refine he_gA h (f := 804) (c := 8) (o := 0) ⟨rfl, by decide⟩ rfl ?_
      refine he_ga h (f := 804) (o := 0) ⟨⟨rfl, by decide, by decide⟩, rfl⟩ (fun v3 => ?_)
      refine hx_let (fun y4 => ?_)
      exact (eh_X8_turn_127 h)
    · exact (eh_X8_turn_108 h)
noncomputable def h_X8_turn_41_b (x1 x2 x3 x5 x6 x7 : Int) (μ : cM) : Option ((Int × Int × cM) ⊕ cO) :=
  (hga μ 215 0 (zadd x1 1)).bind fun v3 =>
  if v3 ≤ x7 then
    (h_X8_turn_91 x2 x3 x5 x6 μ).map (fun r => (.inr r))
  else
    (hga μ 804 0 x3).bind fun v5 =>
    hci (h_X8_best (jshl 1 (zadd (zmul 8 x2) v5)) x7 μ) fun v6 μ7 =>
    zlet (if (zadd 1 v6) < x5 then (zadd 1 v6) else x5) fun y8 =>
    zlet (zadd x7 1) fun y9 =>
    some (.inl (y8, y9, μ7))
theorem eh_X8_turn_41_b {B : Nat} {τ : zM} {x1 x2 x3 x5 x6 x7 : Int} {μ : cM} (h : cOK B τ μ.2) : hR (Sum.map (fun s => (s.1, s.2.1, cw B s.2.2)) (hf B)) (Sum.elim (fun s : Int × Int × cM => cOK B τ s.2.2.2) (hp B τ)) (f_X8_turn_41_b (cad B 8 0) x1 x2 x3 x5 x6 x7 (cw B μ)) (h_X8_turn_41_b x1 x2 x3 x5 x6 x7 μ) := by
  unfold f_X8_turn_41_b h_X8_turn_41_b
  refine he_gr h (f := 800) (c := 8) (o := 0) ⟨by decide, by decide⟩ rfl ?_
  refine he_gA h (f := 215) (c := 2) (o := 0) ⟨rfl, by decide⟩ rfl ?_
  refine he_ga h (f := 215) (o := 0) ⟨⟨rfl, by decide, by decide⟩, rfl⟩ (fun v3 => ?_)
  refine hx_if ?_ ?_
  · exact hx_map (eh_X8_turn_91 h) (fun r => rfl) (fun r q => q)
  · refine he_gA h (f := 804) (c := 8) (o := 0) ⟨rfl, by decide⟩ rfl ?_
    refine he_ga h (f := 804) (o := 0) ⟨⟨rfl, by decide, by decide⟩, rfl⟩ (fun v5 => ?_)
    refine hx_is h ⟨rfl, by decide, by decide⟩ ?_
    refine hx_ci (eh_X8_best h) (fun v6 μ7 h => ?_)
    refine hx_let (fun y8 => ?_)
    refine hx_let (fun y9 => ?_)
    first | exact hx_some rfl h | exact hx_some rfl trivial
noncomputable def h_X8_turn_41 (x1 x2 x3 x5 x6 x7 : Int) (μ : cM) : Option cO :=
  zloop (fun s : Int × Int × cM => h_X8_turn_41_b x1 x2 x3 s.1 x6 s.2.1 s.2.2) (x5, x7, μ)
theorem eh_X8_turn_41 {B : Nat} {τ : zM} {x1 x2 x3 x5 x6 x7 : Int} {μ : cM} (h : cOK B τ μ.2) : hR (hf B) (hp B τ) (f_X8_turn_41 (cad B 8 0) x1 x2 x3 x5 x6 x7 (cw B μ)) (h_X8_turn_41 x1 x2 x3 x5 x6 x7 μ) := by
  unfold f_X8_turn_41 h_X8_turn_41
  refine hx_loop (φ := (fun s => (s.1, s.2.1, cw B s.2.2))) (Ps := (fun s : Int × Int × cM => cOK B τ s.2.2.2)) (s := (x5, x7, μ)) h (fun s hs => ?_)
  exact eh_X8_turn_41_b hs
noncomputable def h_X8_turn (x1 x2 : Int) (μ : cM) : Option cO :=
  zlet ((zadd (zmul 8 x1) x2)) fun y1 =>
  hci (h_X8_kinds μ) fun v2 μ3 =>
  zlet ((zsub v2 1)) fun y4 =>
  hcv (h_X8_unwind y1 y4 μ3) fun μ5 =>
  (hga μ5 215 0 x1).bind fun v8 =>
  h_X8_turn_41 x1 x2 y1 3840 x1 v8 μ5
theorem eh_X8_turn {B : Nat} {τ : zM} {x1 x2 : Int} {μ : cM} (h : cOK B τ μ.2) : hR (hf B) (hp B τ) (f_X8_turn (cad B 8 0) x1 x2 (cw B μ)) (h_X8_turn x1 x2 μ) := by
  unfold f_X8_turn h_X8_turn
  refine hx_let (fun y1 => ?_)
  refine hx_is h ⟨rfl, by decide, by decide⟩ ?_
  refine hx_ci (eh_X8_kinds h) (fun v2 μ3 h => ?_)
  refine hx_let (fun y4 => ?_)
  refine hx_is h ⟨rfl, by decide, by decide⟩ ?_
  refine hx_cv (eh_X8_unwind h) (fun μ5 h => ?_)
  refine he_gr h (f := 800) (c := 8) (o := 0) ⟨by decide, by decide⟩ rfl ?_
  refine he_gA h (f := 215) (c := 2) (o := 0) ⟨rfl, by decide⟩ rfl ?_
  refine he_ga h (f := 215) (o := 0) ⟨⟨rfl, by decide, by decide⟩, rfl⟩ (fun v8 => ?_)
  exact (eh_X8_turn_41 h)
noncomputable def h_X8_falsifies_301 (μ : cM) : Option cO :=
  zgd (z01 1) <|
  some (0, zi 1, μ)
theorem eh_X8_falsifies_301 {B : Nat} {τ : zM} {μ : cM} (h : cOK B τ μ.2) : hR (hf B) (hp B τ) (f_X8_falsifies_301  (cw B μ)) (h_X8_falsifies_301  μ) := by
  unfold f_X8_falsifies_301 h_X8_falsifies_301
  refine hx_gd ?_
  first | exact hx_some rfl h | exact hx_some rfl trivial
noncomputable def h_X8_falsifies_295 (x3 x4 x5 : Int) (μ : cM) : Option ((Int × cM) ⊕ cO) :=
  zlet (zadd x5 1) fun y1 =>
  some (.inl (y1, μ))
theorem eh_X8_falsifies_295 {B : Nat} {τ : zM} {x3 x4 x5 : Int} {μ : cM} (h : cOK B τ μ.2) : hR (Sum.map (fun s => (s.1, cw B s.2)) (hf B)) (Sum.elim (fun s : Int × cM => cOK B τ s.2.2) (hp B τ)) (f_X8_falsifies_295 (cad B 8 0) x3 x4 x5 (cw B μ)) (h_X8_falsifies_295 x3 x4 x5 μ) := by
  unfold f_X8_falsifies_295 h_X8_falsifies_295
  refine hx_let (fun y1 => ?_)
  first | exact hx_some rfl h | exact hx_some rfl trivial
noncomputable def h_X8_falsifies_268_b (x3 x4 x5 : Int) (μ : cM) : Option ((Int × cM) ⊕ cO) :=
  hci (h_X8_kinds μ) fun v1 μ2 =>
  if v1 ≤ x5 then
    (h_X8_falsifies_301 μ2).map (fun r => (.inr r))
  else
    if (zand (zshr x3 x5) 1) ≠ 1 then
      h_X8_falsifies_295 x3 x4 x5 μ2
    else
      hcv (h_X8_turn x4 x5 μ2) fun μ3 =>
      h_X8_falsifies_295 x3 x4 x5 μ3
theorem eh_X8_falsifies_268_b {B : Nat} {τ : zM} {x3 x4 x5 : Int} {μ : cM} (h : cOK B τ μ.2) : hR (Sum.map (fun s => (s.1, cw B s.2)) (hf B)) (Sum.elim (fun s : Int × cM => cOK B τ s.2.2) (hp B τ)) (f_X8_falsifies_268_b (cad B 8 0) x3 x4 x5 (cw B μ)) (h_X8_falsifies_268_b x3 x4 x5 μ) := by
  unfold f_X8_falsifies_268_b h_X8_falsifies_268_b
  refine hx_is h ⟨rfl, by decide, by decide⟩ ?_
  refine hx_ci (eh_X8_kinds h) (fun v1 μ2 h => ?_)
  refine hx_if ?_ ?_
  · exact hx_map (eh_X8_falsifies_301 h) (fun r => rfl) (fun r q => q)
  · refine hx_if ?_ ?_
    · exact (eh_X8_falsifies_295 h)
    · refine hx_is h ⟨rfl, by decide, by decide⟩ ?_
      refine hx_cv (eh_X8_turn h) (fun μ3 h => ?_)
      exact (eh_X8_falsifies_295 h)

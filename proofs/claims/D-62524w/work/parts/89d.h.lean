set_option maxRecDepth 100000
noncomputable def h_X2_explore_101 (μ : cM) : Option cO :=
  hwl (hS μ 303 0 0) fun μ2 =>
  hcj (h_X2_packed 0 μ2) fun v4 μ5 =>
  hciT (h_X2_find v4 μ5) (fun n a μ7 => some (n + 1, zr a, μ7)) fun v6 μ7 =>
  h_X2_explore_124 0 μ7
theorem eh_X2_explore_101 {B : Nat} {τ : zM} {μ : cM} (h : cOK B τ μ.2) : hR (hf B) (hp B τ) (f_X2_explore_101 (cad B 2 0) (cw B μ)) (h_X2_explore_101  μ) := by
  unfold f_X2_explore_101 h_X2_explore_101
  refine he_gr h (f := 211) (c := 2) (o := 0) ⟨by decide, by decide⟩ rfl ?_
  refine he_ps h (f := 303) (c := 3) (o := 0) ⟨rfl, by decide, by decide⟩ rfl (fun μ2 h => ?_)
  refine he_gr h (f := 211) (c := 2) (o := 0) ⟨by decide, by decide⟩ rfl ?_
  refine hx_is h ⟨rfl, by decide, by decide⟩ ?_
  refine hx_cj (eh_X2_packed h) (fun v4 μ5 h => ?_)
  refine hx_is h ⟨rfl, by decide, by decide⟩ ?_
  refine hx_ciT (eh_X2_find h) (fun n a μ7 h => hx_some rfl h) (fun v6 μ7 h => ?_)
  exact (eh_X2_explore_124 h)
noncomputable def h_X2_explore_69_b (x1 : Int) (μ : cM) : Option ((Int × cM) ⊕ cO) :=
  zlet (hG μ 204 0) fun v1 =>
  if v1 ≤ x1 then
    (h_X2_explore_101 μ).map (fun r => (.inr r))
  else
    (hrt x1).bind fun v5 =>
    zlet (hG μ 402 v5) fun v6 =>
    (hpa μ 302 0 x1 v6).bind fun μ7 =>
    zlet (zadd x1 1) fun y8 =>
    some (.inl (y8, μ7))
theorem eh_X2_explore_69_b {B : Nat} {τ : zM} {x1 : Int} {μ : cM} (h : cOK B τ μ.2) : hR (Sum.map (fun s => (s.1, cw B s.2)) (hf B)) (Sum.elim (fun s : Int × cM => cOK B τ s.2.2) (hp B τ)) (f_X2_explore_69_b (cad B 2 0) x1 (cw B μ)) (h_X2_explore_69_b x1 μ) := by
  unfold f_X2_explore_69_b h_X2_explore_69_b
  refine he_gs h (f := 204) (c := 2) (o := 0) ⟨rfl, by decide, by decide⟩ rfl (fun v1 => ?_)
  refine hx_if ?_ ?_
  · exact hx_map (eh_X2_explore_101 h) (fun r => rfl) (fun r q => q)
  · refine he_gr h (f := 211) (c := 2) (o := 0) ⟨by decide, by decide⟩ rfl ?_
    refine he_gA h (f := 302) (c := 3) (o := 0) ⟨rfl, by decide⟩ rfl ?_
    refine he_gA h (f := 206) (c := 2) (o := 0) ⟨rfl, by decide⟩ rfl ?_
    refine he_rt h (fun v5 hqv5 => ?_)
    refine he_gs h (f := 402) (c := 4) (o := v5) ⟨rfl, by decide, by decide⟩ rfl (fun v6 => ?_)
    refine he_pa h (f := 302) (o := 0) ⟨⟨rfl, by decide, by decide⟩, rfl⟩ (fun μ7 h => ?_)
    refine hx_let (fun y8 => ?_)
    first | exact hx_some rfl h | exact hx_some rfl trivial
noncomputable def h_X2_explore_69 (x1 : Int) (μ : cM) : Option cO :=
  zloop (fun s : Int × cM => h_X2_explore_69_b s.1 s.2) (x1, μ)
theorem eh_X2_explore_69 {B : Nat} {τ : zM} {x1 : Int} {μ : cM} (h : cOK B τ μ.2) : hR (hf B) (hp B τ) (f_X2_explore_69 (cad B 2 0) x1 (cw B μ)) (h_X2_explore_69 x1 μ) := by
  unfold f_X2_explore_69 h_X2_explore_69
  refine hx_loop (φ := (fun s => (s.1, cw B s.2))) (Ps := (fun s : Int × cM => cOK B τ s.2.2)) (s := (x1, μ)) h (fun s hs => ?_)
  exact eh_X2_explore_69_b hs
noncomputable def h_X2_explore_67 (μ : cM) : Option cO :=
  h_X2_explore_69 0 μ
theorem eh_X2_explore_67 {B : Nat} {τ : zM} {μ : cM} (h : cOK B τ μ.2) : hR (hf B) (hp B τ) (f_X2_explore_67 (cad B 2 0) (cw B μ)) (h_X2_explore_67  μ) := by
  unfold f_X2_explore_67 h_X2_explore_67
  exact (eh_X2_explore_69 h)
noncomputable def h_X2_explore_60 (x1 t0 t1 : Int) (μ : cM) : Option ((Int × cM) ⊕ cO) :=
  (hpa μ 300 0 t1 t0).bind fun μ1 =>
  zlet (zadd x1 1) fun y2 =>
  some (.inl (y2, μ1))
theorem eh_X2_explore_60 {B : Nat} {τ : zM} {x1 t0 t1 : Int} {μ : cM} (h : cOK B τ μ.2) : hR (Sum.map (fun s => (s.1, cw B s.2)) (hf B)) (Sum.elim (fun s : Int × cM => cOK B τ s.2.2) (hp B τ)) (f_X2_explore_60 (cad B 2 0) x1 t0 t1 (caa B 300 0) (cw B μ)) (h_X2_explore_60 x1 t0 t1 μ) := by
  unfold f_X2_explore_60 h_X2_explore_60
  refine he_pa h (f := 300) (o := 0) ⟨⟨rfl, by decide, by decide⟩, rfl⟩ (fun μ1 h => ?_)
  refine hx_let (fun y2 => ?_)
  first | exact hx_some rfl h | exact hx_some rfl trivial
noncomputable def h_X2_explore_26_b (x1 : Int) (μ : cM) : Option ((Int × cM) ⊕ cO) :=
  if 8 ≤ x1 then
    (h_X2_explore_67 μ).map (fun r => (.inr r))
  else
    (hga μ 200 0 x1).bind fun v4 =>
    if v4 ≠ 1 then
      h_X2_explore_60 x1 0 x1 μ
    else
      (hga μ 201 0 x1).bind fun v6 =>
      h_X2_explore_60 x1 v6 x1 μ
theorem eh_X2_explore_26_b {B : Nat} {τ : zM} {x1 : Int} {μ : cM} (h : cOK B τ μ.2) : hR (Sum.map (fun s => (s.1, cw B s.2)) (hf B)) (Sum.elim (fun s : Int × cM => cOK B τ s.2.2) (hp B τ)) (f_X2_explore_26_b (cad B 2 0) x1 (cw B μ)) (h_X2_explore_26_b x1 μ) := by
  unfold f_X2_explore_26_b h_X2_explore_26_b
  refine hx_if ?_ ?_
  · exact hx_map (eh_X2_explore_67 h) (fun r => rfl) (fun r q => q)
  · refine he_gr h (f := 211) (c := 2) (o := 0) ⟨by decide, by decide⟩ rfl ?_
    refine he_gA h (f := 300) (c := 3) (o := 0) ⟨rfl, by decide⟩ rfl ?_
    refine he_gA h (f := 200) (c := 2) (o := 0) ⟨rfl, by decide⟩ rfl ?_
    refine he_ga h (f := 200) (o := 0) ⟨⟨rfl, by decide, by decide⟩, rfl⟩ (fun v4 => ?_)
    refine hx_if ?_ ?_
    · exact (eh_X2_explore_60 h)
    · refine he_gA h (f := 201) (c := 2) (o := 0) ⟨rfl, by decide⟩ rfl ?_
      refine he_ga h (f := 201) (o := 0) ⟨⟨rfl, by decide, by decide⟩, rfl⟩ (fun v6 => ?_)
      exact (eh_X2_explore_60 h)
noncomputable def h_X2_explore_26 (x1 : Int) (μ : cM) : Option cO :=
  zloop (fun s : Int × cM => h_X2_explore_26_b s.1 s.2) (x1, μ)
theorem eh_X2_explore_26 {B : Nat} {τ : zM} {x1 : Int} {μ : cM} (h : cOK B τ μ.2) : hR (hf B) (hp B τ) (f_X2_explore_26 (cad B 2 0) x1 (cw B μ)) (h_X2_explore_26 x1 μ) := by
  unfold f_X2_explore_26 h_X2_explore_26
  refine hx_loop (φ := (fun s => (s.1, cw B s.2))) (Ps := (fun s : Int × cM => cOK B τ s.2.2)) (s := (x1, μ)) h (fun s hs => ?_)
  exact eh_X2_explore_26_b hs
noncomputable def h_X2_explore_24 (μ : cM) : Option cO :=
  h_X2_explore_26 0 μ
theorem eh_X2_explore_24 {B : Nat} {τ : zM} {μ : cM} (h : cOK B τ μ.2) : hR (hf B) (hp B τ) (f_X2_explore_24 (cad B 2 0) (cw B μ)) (h_X2_explore_24  μ) := by
  unfold f_X2_explore_24 h_X2_explore_24
  exact (eh_X2_explore_26 h)
noncomputable def h_X2_explore_2_b (x1 : Int) (μ : cM) : Option ((Int × cM) ⊕ cO) :=
  zlet (alen 214 : Int) fun v2 =>
  if v2 ≤ x1 then
    (h_X2_explore_24 μ).map (fun r => (.inr r))
  else
    (hpa μ 214 0 x1 0).bind fun μ4 =>
    zlet (zadd x1 1) fun y5 =>
    some (.inl (y5, μ4))
theorem eh_X2_explore_2_b {B : Nat} {τ : zM} {x1 : Int} {μ : cM} (h : cOK B τ μ.2) : hR (Sum.map (fun s => (s.1, cw B s.2)) (hf B)) (Sum.elim (fun s : Int × cM => cOK B τ s.2.2) (hp B τ)) (f_X2_explore_2_b (cad B 2 0) x1 (cw B μ)) (h_X2_explore_2_b x1 μ) := by
  unfold f_X2_explore_2_b h_X2_explore_2_b
  refine he_gA h (f := 214) (c := 2) (o := 0) ⟨rfl, by decide⟩ rfl ?_
  refine he_la h (f := 214) (o := 0) ⟨rfl, rfl⟩ (fun v2 => ?_)
  refine hx_if ?_ ?_
  · exact hx_map (eh_X2_explore_24 h) (fun r => rfl) (fun r q => q)
  · refine he_gA h (f := 214) (c := 2) (o := 0) ⟨rfl, by decide⟩ rfl ?_
    refine he_pa h (f := 214) (o := 0) ⟨⟨rfl, by decide, by decide⟩, rfl⟩ (fun μ4 h => ?_)
    refine hx_let (fun y5 => ?_)
    first | exact hx_some rfl h | exact hx_some rfl trivial
noncomputable def h_X2_explore_2 (x1 : Int) (μ : cM) : Option cO :=
  zloop (fun s : Int × cM => h_X2_explore_2_b s.1 s.2) (x1, μ)
theorem eh_X2_explore_2 {B : Nat} {τ : zM} {x1 : Int} {μ : cM} (h : cOK B τ μ.2) : hR (hf B) (hp B τ) (f_X2_explore_2 (cad B 2 0) x1 (cw B μ)) (h_X2_explore_2 x1 μ) := by
  unfold f_X2_explore_2 h_X2_explore_2
  refine hx_loop (φ := (fun s => (s.1, cw B s.2))) (Ps := (fun s : Int × cM => cOK B τ s.2.2)) (s := (x1, μ)) h (fun s hs => ?_)
  exact eh_X2_explore_2_b hs
noncomputable def h_X2_explore (μ : cM) : Option cO :=
  h_X2_explore_2 0 μ
theorem eh_X2_explore {B : Nat} {τ : zM} {μ : cM} (h : cOK B τ μ.2) : hR (hf B) (hp B τ) (f_X2_explore (cad B 2 0) (cw B μ)) (h_X2_explore  μ) := by
  unfold f_X2_explore h_X2_explore
  exact (eh_X2_explore_2 h)
noncomputable def h_X1_model_31 (t0 : Int) (μ : cM) : Option cO :=
  zlet (hG μ 502 0) fun v2 =>
  hwl (hS μ 108 0 v2) fun μ3 =>
  (hup μ3 (znX μ3.2 51)).bind fun μ4 =>
  zgd (zis μ4.2 51 (↑(zN μ3.2) : Int)) <|
  some (1, zr (↑(zN μ3.2) : Int), μ4)
theorem eh_X1_model_31 {B : Nat} {τ : zM} {t0 : Int} {μ : cM} (h : cOK B τ μ.2) : hR (hf B) (hp B τ) (f_X1_model_31 (cad B 1 0) t0 (cw B μ)) (h_X1_model_31 t0 μ) := by
  unfold f_X1_model_31 h_X1_model_31
  refine he_gr h (f := 102) (c := 1) (o := 0) ⟨by decide, by decide⟩ rfl ?_
  refine he_gs h (f := 502) (c := 5) (o := 0) ⟨rfl, by decide, by decide⟩ rfl (fun v2 => ?_)
  refine he_ps h (f := 108) (c := 1) (o := 0) ⟨rfl, by decide, by decide⟩ rfl (fun μ3 h => ?_)
  refine he_nX h (fun μ4 h => ?_)
  refine hx_gd ?_
  first | exact hx_some rfl h | exact hx_some rfl trivial
noncomputable def h_X1_model (μ : cM) : Option cO :=
  hcr (h_X1_taken μ) fun v2 μ3 =>
  hcv (h_X5_begin 0 v2 μ3) fun μ4 =>
  zgd (z01 0) <|
  hwl (hS μ4 106 0 0) fun μ5 =>
  hwl (hS μ5 110 0 (-1)) fun μ6 =>
  hcvT (h_X6_read μ6) (fun n a μ8 => if n = 0 then h_X1_model_31 a μ8 else none) fun μ8 =>
  hcvT (h_X2_explore μ8) (fun n a μ10 => some (n + 1, zr a, μ10)) fun μ10 =>
  zgd (z01 1) <|
  hwl (hS μ10 106 0 1) fun μ11 =>
  zlet (hG μ11 220 0) fun v13 =>
  some (0, zi v13, μ11)
theorem eh_X1_model {B : Nat} {τ : zM} {μ : cM} (h : cOK B τ μ.2) : hR (hf B) (hp B τ) (f_X1_model (cad B 1 0) (cw B μ)) (h_X1_model  μ) := by
  unfold f_X1_model h_X1_model
  refine he_gr h (f := 102) (c := 1) (o := 0) ⟨by decide, by decide⟩ rfl ?_
  refine hx_is h ⟨rfl, by decide, by decide⟩ ?_
  refine hx_cr (eh_X1_taken h) (fun v2 μ3 h => ?_)
  refine hx_is h ⟨rfl, by decide, by decide⟩ ?_
  refine hx_cv (eh_X5_begin h) (fun μ4 h => ?_)
  refine hx_gd ?_
  refine he_ps h (f := 106) (c := 1) (o := 0) ⟨rfl, by decide, by decide⟩ rfl (fun μ5 h => ?_)
  refine he_ps h (f := 110) (c := 1) (o := 0) ⟨rfl, by decide, by decide⟩ rfl (fun μ6 h => ?_)
  refine he_gr h (f := 102) (c := 1) (o := 0) ⟨by decide, by decide⟩ rfl ?_
  refine hx_is h ⟨rfl, by decide, by decide⟩ ?_
  refine hx_cvT (eh_X6_read h) (fun n a μ8 h => hx_if (eh_X1_model_31 h) (hR_none _ _)) (fun μ8 h => ?_)
  refine he_gr h (f := 101) (c := 1) (o := 0) ⟨by decide, by decide⟩ rfl ?_
  refine hx_is h ⟨rfl, by decide, by decide⟩ ?_
  refine hx_cvT (eh_X2_explore h) (fun n a μ10 h => hx_some rfl h) (fun μ10 h => ?_)
  refine hx_gd ?_
  refine he_ps h (f := 106) (c := 1) (o := 0) ⟨rfl, by decide, by decide⟩ rfl (fun μ11 h => ?_)
  refine he_gr h (f := 101) (c := 1) (o := 0) ⟨by decide, by decide⟩ rfl ?_
  refine he_gs h (f := 220) (c := 2) (o := 0) ⟨rfl, by decide, by decide⟩ rfl (fun v13 => ?_)
  first | exact hx_some rfl h | exact hx_some rfl trivial
noncomputable def h_X1_need (x0 : Int) (μ : cM) : Option cO :=
  if x0 ≠ 0 then
    some (0, ((3, 0) : zV), μ)
  else
    (hup μ (znX μ.2 52)).bind fun μ1 =>
    zgd (zis μ1.2 52 (↑(zN μ.2) : Int)) <|
    some (2, zr (↑(zN μ.2) : Int), μ1)
theorem eh_X1_need {B : Nat} {τ : zM} {x0 : Int} {μ : cM} (h : cOK B τ μ.2) : hR (hf B) (hp B τ) (f_X1_need x0 (cw B μ)) (h_X1_need x0 μ) := by
  unfold f_X1_need h_X1_need
  refine hx_if ?_ ?_
  · first | exact hx_some rfl h | exact hx_some rfl trivial
  · refine he_nX h (fun μ1 h => ?_)
    refine hx_gd ?_
    first | exact hx_some rfl h | exact hx_some rfl trivial
noncomputable def h_X15_init (x0 x1 x2 x3 : Int) (μ : cM) : Option cO :=
  zgd (decide (0 ≤ x0)) <|
  hcv (h_J22_init x0 μ) fun μ1 =>
  (hup μ1 (zpf μ1.2 1500 x0 x1)).bind fun μ2 =>
  (hup μ2 (zpf μ2.2 1501 x0 x2)).bind fun μ3 =>
  (hup μ3 (zpf μ3.2 1502 x0 x3)).bind fun μ4 =>
  some (0, ((3, 0) : zV), μ4)
theorem eh_X15_init {B : Nat} {τ : zM} {x0 x1 x2 x3 : Int} {μ : cM} (h : cOK B τ μ.2) : hR (hf B) (hp B τ) (f_X15_init x0 x1 x2 x3 (cw B μ)) (h_X15_init x0 x1 x2 x3 μ) := by
  unfold f_X15_init h_X15_init
  refine hx_gd ?_
  refine hx_cv (eh_J22_init h) (fun μ1 h => ?_)
  refine he_pd h 1500 ⟨by decide, by decide⟩ rfl (fun μ2 h => ?_)
  refine he_pd h 1501 ⟨by decide, by decide⟩ rfl (fun μ3 h => ?_)
  refine he_pd h 1502 ⟨by decide, by decide⟩ rfl (fun μ4 h => ?_)
  first | exact hx_some rfl h | exact hx_some rfl trivial
noncomputable def h_X16_init (x0 x1 : Int) (μ : cM) : Option cO :=
  zgd (decide (0 ≤ x0)) <|
  hcv (h_J22_init x0 μ) fun μ1 =>
  (hup μ1 (zpf μ1.2 1600 x0 x1)).bind fun μ2 =>
  some (0, ((3, 0) : zV), μ2)
theorem eh_X16_init {B : Nat} {τ : zM} {x0 x1 : Int} {μ : cM} (h : cOK B τ μ.2) : hR (hf B) (hp B τ) (f_X16_init x0 x1 (cw B μ)) (h_X16_init x0 x1 μ) := by
  unfold f_X16_init h_X16_init
  refine hx_gd ?_
  refine hx_cv (eh_J22_init h) (fun μ1 h => ?_)
  refine he_pd h 1600 ⟨by decide, by decide⟩ rfl (fun μ2 h => ?_)
  first | exact hx_some rfl h | exact hx_some rfl trivial
noncomputable def h_X7_proposition_165 (μ : cM) : Option cO :=
  zlet (hG μ 708 1) fun v1 =>
  hwl (hS μ 708 1 (zadd v1 1)) fun μ2 =>
  (hup μ2 (znO μ2.2 16 1)).bind fun μ3 =>
  zlet ((↑(zN μ2.2) : Int)) fun y4 =>
  zlet (hG μ3 708 1) fun v5 =>
  zgd (decide (0 ≤ y4)) <|
  hcv (h_X16_init y4 (zsub v5 1) μ3) fun μ6 =>
  some (0, zr y4, μ6)
theorem eh_X7_proposition_165 {B : Nat} {τ : zM} {μ : cM} (h : cOK B τ μ.2) : hR (hf B) (hp B τ) (f_X7_proposition_165 (cad B 5 1) (cw B μ)) (h_X7_proposition_165  μ) := by
  unfold f_X7_proposition_165 h_X7_proposition_165
  refine he_gs h (f := 708) (c := 5) (o := 1) ⟨rfl, by decide, by decide⟩ rfl (fun v1 => ?_)
  refine he_ps h (f := 708) (c := 5) (o := 1) ⟨rfl, by decide, by decide⟩ rfl (fun μ2 h => ?_)
  refine he_nO h (fun μ3 h => ?_)
  refine hx_let (fun y4 => ?_)
  refine he_gs h (f := 708) (c := 5) (o := 1) ⟨rfl, by decide, by decide⟩ rfl (fun v5 => ?_)
  refine hx_gd ?_
  refine hx_cv (eh_X16_init h) (fun μ6 h => ?_)
  first | exact hx_some rfl h | exact hx_some rfl trivial
noncomputable def h_X7_proposition_120 (x2 x3 t0 : Int) (μ : cM) : Option cO :=
  hcvT (h_X5_need t0 μ) (fun n a μ1 => some (n + 1, zr a, μ1)) fun μ1 =>
  zlet (hG μ1 502 1) fun v2 =>
  hwl (hS μ1 502 1 (zadd v2 1)) fun μ3 =>
  zlet (hG μ3 708 1) fun v5 =>
  (hup μ3 (znO μ3.2 15 3)).bind fun μ6 =>
  zlet ((↑(zN μ3.2) : Int)) fun y7 =>
  (hrt x2).bind fun v10 =>
  (hga μ6 405 v10 x3).bind fun v12 =>
  zgd (decide (0 ≤ y7)) <|
  hcv (h_X15_init y7 (-1) x2 v12 μ6) fun μ13 =>
  (hpr μ13 706 1 v5 y7).bind fun μ14 =>
  h_X7_proposition_165 μ14
theorem eh_X7_proposition_120 {B : Nat} {τ : zM} {x2 x3 t0 : Int} {μ : cM} (h : cOK B τ μ.2) : hR (hf B) (hp B τ) (f_X7_proposition_120 (cad B 5 1) x2 x3 t0 (cw B μ)) (h_X7_proposition_120 x2 x3 t0 μ) := by
  unfold f_X7_proposition_120 h_X7_proposition_120
  refine hx_cvT (eh_X5_need h) (fun n a μ1 h => hx_some rfl h) (fun μ1 h => ?_)
  refine he_gs h (f := 502) (c := 5) (o := 1) ⟨rfl, by decide, by decide⟩ rfl (fun v2 => ?_)
  refine he_ps h (f := 502) (c := 5) (o := 1) ⟨rfl, by decide, by decide⟩ rfl (fun μ3 h => ?_)
  refine he_gA h (f := 706) (c := 5) (o := 1) ⟨rfl, by decide⟩ rfl ?_
  refine he_gs h (f := 708) (c := 5) (o := 1) ⟨rfl, by decide, by decide⟩ rfl (fun v5 => ?_)
  refine he_nO h (fun μ6 h => ?_)
  refine hx_let (fun y7 => ?_)
  refine he_gr h (f := 500) (c := 5) (o := 1) ⟨by decide, by decide⟩ rfl ?_
  refine he_gA h (f := 206) (c := 2) (o := 0) ⟨rfl, by decide⟩ rfl ?_
  refine he_rt h (fun v10 hqv10 => ?_)
  refine he_gA h (f := 405) (c := 4) (o := v10) ⟨rfl, by decide⟩ rfl ?_
  refine he_ga h (f := 405) (o := v10) ⟨⟨rfl, by decide, by decide⟩, rfl⟩ (fun v12 => ?_)
  refine hx_gd ?_
  refine hx_cv (eh_X15_init h) (fun μ13 h => ?_)
  refine he_pr h (f := 706) (o := 1) ⟨⟨rfl, by decide, by decide⟩, rfl⟩ (fun μ14 h => ?_)
  exact (eh_X7_proposition_165 h)
noncomputable def h_X7_proposition_119 (x2 x3 : Int) (μ : cM) : Option cO :=
  h_X7_proposition_120 x2 x3 0 μ
theorem eh_X7_proposition_119 {B : Nat} {τ : zM} {x2 x3 : Int} {μ : cM} (h : cOK B τ μ.2) : hR (hf B) (hp B τ) (f_X7_proposition_119 (cad B 5 1) x2 x3 (cw B μ)) (h_X7_proposition_119 x2 x3 μ) := by
  unfold f_X7_proposition_119 h_X7_proposition_119
  exact (eh_X7_proposition_120 h)
noncomputable def h_X7_proposition_14 (x1 t0 : Int) (μ : cM) : Option cO :=
  hcvT (h_X5_need t0 μ) (fun n a μ1 => some (n + 1, zr a, μ1)) fun μ1 =>
  zlet (hG μ1 502 1) fun v2 =>
  hwl (hS μ1 502 1 (zadd v2 1)) fun μ3 =>
  if x1 ≠ 123 then
    zlet (hG μ3 204 0) fun v5 =>
    hciT (h_X5_letter 1 48 v5 μ3) (fun n a μ7 => some (n + 1, zr a, μ7)) fun v6 μ7 =>
    hci (h_X5_now 1 μ7) fun v8 μ9 =>
    zlet ((zsub v8 65)) fun y10 =>
    if y10 < 0 then
      h_X7_proposition_119 v6 y10 μ9
    else
      if 8 ≤ y10 then
        h_X7_proposition_119 v6 y10 μ9
      else
        (hrt v6).bind fun v13 =>
        (hga μ9 405 v13 y10).bind fun v15 =>
        if v15 = (-1) then
          h_X7_proposition_119 v6 y10 μ9
        else
          h_X7_proposition_120 v6 y10 1 μ9
  else
    zlet (hG μ3 708 1) fun v17 =>
    (hup μ3 (znO μ3.2 15 3)).bind fun μ18 =>
    zlet ((↑(zN μ3.2) : Int)) fun y19 =>
    hcrT (h_X5_whole 1 0 μ18) (fun n a μ21 => some (n + 1, zr a, μ21)) fun v20 μ21 =>
    zgd (decide (0 ≤ y19)) <|
    hcv (h_X15_init y19 v20 (-1) (-1) μ21) fun μ22 =>
    (hpr μ22 706 1 v17 y19).bind fun μ23 =>
    hcvT (h_X5_sign 1 125 μ23) (fun n a μ24 => some (n + 1, zr a, μ24)) fun μ24 =>
    h_X7_proposition_165 μ24
theorem eh_X7_proposition_14 {B : Nat} {τ : zM} {x1 t0 : Int} {μ : cM} (h : cOK B τ μ.2) : hR (hf B) (hp B τ) (f_X7_proposition_14 (cad B 5 1) x1 t0 (cw B μ)) (h_X7_proposition_14 x1 t0 μ) := by
  unfold f_X7_proposition_14 h_X7_proposition_14
  refine hx_cvT (eh_X5_need h) (fun n a μ1 h => hx_some rfl h) (fun μ1 h => ?_)
  refine he_gs h (f := 502) (c := 5) (o := 1) ⟨rfl, by decide, by decide⟩ rfl (fun v2 => ?_)
  refine he_ps h (f := 502) (c := 5) (o := 1) ⟨rfl, by decide, by decide⟩ rfl (fun μ3 h => ?_)
  refine hx_if ?_ ?_
  · refine he_gr h (f := 500) (c := 5) (o := 1) ⟨by decide, by decide⟩ rfl ?_
    refine he_gs h (f := 204) (c := 2) (o := 0) ⟨rfl, by decide, by decide⟩ rfl (fun v5 => ?_)
    refine hx_is h ⟨rfl, by decide, by decide⟩ ?_
    refine hx_ciT (eh_X5_letter h) (fun n a μ7 h => hx_some rfl h) (fun v6 μ7 h => ?_)
    refine hx_is h ⟨rfl, by decide, by decide⟩ ?_
    refine hx_ci (eh_X5_now h) (fun v8 μ9 h => ?_)
    refine hx_let (fun y10 => ?_)
    refine hx_if ?_ ?_
    · exact (eh_X7_proposition_119 h)
    · refine hx_if ?_ ?_
      · exact (eh_X7_proposition_119 h)
      · refine he_gr h (f := 500) (c := 5) (o := 1) ⟨by decide, by decide⟩ rfl ?_
        refine he_gA h (f := 206) (c := 2) (o := 0) ⟨rfl, by decide⟩ rfl ?_
        refine he_rt h (fun v13 hqv13 => ?_)
        refine he_gA h (f := 405) (c := 4) (o := v13) ⟨rfl, by decide⟩ rfl ?_
        refine he_ga h (f := 405) (o := v13) ⟨⟨rfl, by decide, by decide⟩, rfl⟩ (fun v15 => ?_)
        refine hx_if ?_ ?_
        · exact (eh_X7_proposition_119 h)
        · exact (eh_X7_proposition_120 h)
  · refine he_gA h (f := 706) (c := 5) (o := 1) ⟨rfl, by decide⟩ rfl ?_
    refine he_gs h (f := 708) (c := 5) (o := 1) ⟨rfl, by decide, by decide⟩ rfl (fun v17 => ?_)
    refine he_nO h (fun μ18 h => ?_)
    refine hx_let (fun y19 => ?_)
    refine hx_is h ⟨rfl, by decide, by decide⟩ ?_
    refine hx_crT (eh_X5_whole h) (fun n a μ21 h => hx_some rfl h) (fun v20 μ21 h => ?_)
    refine hx_gd ?_
    refine hx_cv (eh_X15_init h) (fun μ22 h => ?_)
    refine he_pr h (f := 706) (o := 1) ⟨⟨rfl, by decide, by decide⟩, rfl⟩ (fun μ23 h => ?_)
    refine hx_is h ⟨rfl, by decide, by decide⟩ ?_
    refine hx_cvT (eh_X5_sign h) (fun n a μ24 h => hx_some rfl h) (fun μ24 h => ?_)
    exact (eh_X7_proposition_165 h)
noncomputable def h_X7_proposition (x1 : Int) (μ : cM) : Option cO :=
  zlet (hG μ 708 1) fun v1 =>
  if 8 ≤ v1 then
    h_X7_proposition_14 x1 0 μ
  else
    h_X7_proposition_14 x1 1 μ
theorem eh_X7_proposition {B : Nat} {τ : zM} {x1 : Int} {μ : cM} (h : cOK B τ μ.2) : hR (hf B) (hp B τ) (f_X7_proposition (cad B 5 1) x1 (cw B μ)) (h_X7_proposition x1 μ) := by
  unfold f_X7_proposition h_X7_proposition
  refine he_gs h (f := 708) (c := 5) (o := 1) ⟨rfl, by decide, by decide⟩ rfl (fun v1 => ?_)
  refine hx_if ?_ ?_
  · exact (eh_X7_proposition_14 h)
  · exact (eh_X7_proposition_14 h)
noncomputable def h_X7_open_13 (t0 : Int) (μ : cM) : Option cO :=
  hcvT (h_X5_need t0 μ) (fun n a μ1 => some (n + 1, zr a, μ1)) fun μ1 =>
  zlet (hG μ1 709 1) fun v2 =>
  hwl (hS μ1 709 1 (zadd v2 1)) fun μ3 =>
  some (0, ((3, 0) : zV), μ3)
theorem eh_X7_open_13 {B : Nat} {τ : zM} {t0 : Int} {μ : cM} (h : cOK B τ μ.2) : hR (hf B) (hp B τ) (f_X7_open_13 (cad B 5 1) t0 (cw B μ)) (h_X7_open_13 t0 μ) := by
  unfold f_X7_open_13 h_X7_open_13
  refine hx_cvT (eh_X5_need h) (fun n a μ1 h => hx_some rfl h) (fun μ1 h => ?_)
  refine he_gs h (f := 709) (c := 5) (o := 1) ⟨rfl, by decide, by decide⟩ rfl (fun v2 => ?_)
  refine he_ps h (f := 709) (c := 5) (o := 1) ⟨rfl, by decide, by decide⟩ rfl (fun μ3 h => ?_)
  first | exact hx_some rfl h | exact hx_some rfl trivial
noncomputable def h_X7_open (μ : cM) : Option cO :=
  zlet (hG μ 709 1) fun v1 =>
  if 3 ≤ v1 then
    h_X7_open_13 0 μ
  else
    h_X7_open_13 1 μ
theorem eh_X7_open {B : Nat} {τ : zM} {μ : cM} (h : cOK B τ μ.2) : hR (hf B) (hp B τ) (f_X7_open (cad B 5 1) (cw B μ)) (h_X7_open  μ) := by
  unfold f_X7_open h_X7_open
  refine he_gs h (f := 709) (c := 5) (o := 1) ⟨rfl, by decide, by decide⟩ rfl (fun v1 => ?_)
  refine hx_if ?_ ?_
  · exact (eh_X7_open_13 h)
  · exact (eh_X7_open_13 h)
noncomputable def h_X7_deeper_11 (x1 t0 : Int) (μ : cM) : Option cO :=
  hcvT (h_X5_need t0 μ) (fun n a μ1 => some (n + 1, zr a, μ1)) fun μ1 =>
  zlet (hG μ1 502 1) fun v2 =>
  hwl (hS μ1 502 1 (zadd v2 1)) fun μ3 =>
  some (0, zi (zadd x1 1), μ3)
theorem eh_X7_deeper_11 {B : Nat} {τ : zM} {x1 t0 : Int} {μ : cM} (h : cOK B τ μ.2) : hR (hf B) (hp B τ) (f_X7_deeper_11 (cad B 5 1) x1 t0 (cw B μ)) (h_X7_deeper_11 x1 t0 μ) := by
  unfold f_X7_deeper_11 h_X7_deeper_11
  refine hx_cvT (eh_X5_need h) (fun n a μ1 h => hx_some rfl h) (fun μ1 h => ?_)
  refine he_gs h (f := 502) (c := 5) (o := 1) ⟨rfl, by decide, by decide⟩ rfl (fun v2 => ?_)
  refine he_ps h (f := 502) (c := 5) (o := 1) ⟨rfl, by decide, by decide⟩ rfl (fun μ3 h => ?_)
  first | exact hx_some rfl h | exact hx_some rfl trivial
noncomputable def h_X7_deeper (x1 : Int) (μ : cM) : Option cO :=
  if 8 ≤ x1 then
    h_X7_deeper_11 x1 0 μ
  else
    h_X7_deeper_11 x1 1 μ
theorem eh_X7_deeper {B : Nat} {τ : zM} {x1 : Int} {μ : cM} (h : cOK B τ μ.2) : hR (hf B) (hp B τ) (f_X7_deeper (cad B 5 1) x1 (cw B μ)) (h_X7_deeper x1 μ) := by
  unfold f_X7_deeper h_X7_deeper
  refine hx_if ?_ ?_
  · exact (eh_X7_deeper_11 h)
  · exact (eh_X7_deeper_11 h)
noncomputable def h_X17_init (x0 x1 : Int) (μ : cM) : Option cO :=
  zgd (decide (0 ≤ x0)) <|
  hcv (h_J22_init x0 μ) fun μ1 =>
  (hup μ1 (zpf μ1.2 1700 x0 x1)).bind fun μ2 =>
  some (0, ((3, 0) : zV), μ2)
theorem eh_X17_init {B : Nat} {τ : zM} {x0 x1 : Int} {μ : cM} (h : cOK B τ μ.2) : hR (hf B) (hp B τ) (f_X17_init x0 x1 (cw B μ)) (h_X17_init x0 x1 μ) := by
  unfold f_X17_init h_X17_init
  refine hx_gd ?_
  refine hx_cv (eh_J22_init h) (fun μ1 h => ?_)
  refine he_pd h 1700 ⟨by decide, by decide⟩ rfl (fun μ2 h => ?_)
  first | exact hx_some rfl h | exact hx_some rfl trivial
noncomputable def h_X18_init (x0 x1 x2 x3 x4 : Int) (μ : cM) : Option cO :=
  zgd (decide (0 ≤ x0)) <|
  hcv (h_J22_init x0 μ) fun μ1 =>
  zgd (zch x1) <|
  (hup μ1 (zpf μ1.2 1800 x0 x1)).bind fun μ2 =>
  (hup μ2 (zpf μ2.2 1801 x0 x2)).bind fun μ3 =>
  (hup μ3 (zpf μ3.2 1802 x0 x3)).bind fun μ4 =>
  (hup μ4 (zpf μ4.2 1803 x0 x4)).bind fun μ5 =>
  some (0, ((3, 0) : zV), μ5)
theorem eh_X18_init {B : Nat} {τ : zM} {x0 x1 x2 x3 x4 : Int} {μ : cM} (h : cOK B τ μ.2) : hR (hf B) (hp B τ) (f_X18_init x0 x1 x2 x3 x4 (cw B μ)) (h_X18_init x0 x1 x2 x3 x4 μ) := by
  unfold f_X18_init h_X18_init
  refine hx_gd ?_
  refine hx_cv (eh_J22_init h) (fun μ1 h => ?_)
  refine hx_gd ?_
  refine he_pd h 1800 ⟨by decide, by decide⟩ rfl (fun μ2 h => ?_)
  refine he_pd h 1801 ⟨by decide, by decide⟩ rfl (fun μ3 h => ?_)
  refine he_pd h 1802 ⟨by decide, by decide⟩ rfl (fun μ4 h => ?_)
  refine he_pd h 1803 ⟨by decide, by decide⟩ rfl (fun μ5 h => ?_)
  first | exact hx_some rfl h | exact hx_some rfl trivial
noncomputable def h_X7_close (x1 x2 x3 : Int) (μ : cM) : Option cO :=
  (hup μ (znO μ.2 18 4)).bind fun μ1 =>
  zlet ((↑(zN μ.2) : Int)) fun y2 =>
  zlet (hG μ1 707 1) fun v3 =>
  zgd (decide (0 ≤ y2)) <|
  hcv (h_X18_init y2 x1 v3 x2 x3 μ1) fun μ4 =>
  zlet (hG μ4 707 1) fun v6 =>
  (hpr μ4 705 1 v6 y2).bind fun μ7 =>
  zlet (hG μ7 707 1) fun v8 =>
  hwl (hS μ7 707 1 (zadd v8 1)) fun μ9 =>
  some (0, zr y2, μ9)
theorem eh_X7_close {B : Nat} {τ : zM} {x1 x2 x3 : Int} {μ : cM} (h : cOK B τ μ.2) : hR (hf B) (hp B τ) (f_X7_close (cad B 5 1) x1 x2 x3 (cw B μ)) (h_X7_close x1 x2 x3 μ) := by
  unfold f_X7_close h_X7_close
  refine he_nO h (fun μ1 h => ?_)
  refine hx_let (fun y2 => ?_)
  refine he_gs h (f := 707) (c := 5) (o := 1) ⟨rfl, by decide, by decide⟩ rfl (fun v3 => ?_)
  refine hx_gd ?_
  refine hx_cv (eh_X18_init h) (fun μ4 h => ?_)
  refine he_gA h (f := 705) (c := 5) (o := 1) ⟨rfl, by decide⟩ rfl ?_
  refine he_gs h (f := 707) (c := 5) (o := 1) ⟨rfl, by decide, by decide⟩ rfl (fun v6 => ?_)
  refine he_pr h (f := 705) (o := 1) ⟨⟨rfl, by decide, by decide⟩, rfl⟩ (fun μ7 h => ?_)
  refine he_gs h (f := 707) (c := 5) (o := 1) ⟨rfl, by decide, by decide⟩ rfl (fun v8 => ?_)
  refine he_ps h (f := 707) (c := 5) (o := 1) ⟨rfl, by decide, by decide⟩ rfl (fun μ9 h => ?_)
  first | exact hx_some rfl h | exact hx_some rfl trivial
noncomputable def h_X19_init (x0 x1 x2 x3 : Int) (μ : cM) : Option cO :=
  zgd (decide (0 ≤ x0)) <|
  hcv (h_J22_init x0 μ) fun μ1 =>
  zgd (zch x1) <|
  (hup μ1 (zpf μ1.2 1900 x0 x1)).bind fun μ2 =>
  (hup μ2 (zpf μ2.2 1901 x0 x2)).bind fun μ3 =>
  (hup μ3 (zpf μ3.2 1902 x0 x3)).bind fun μ4 =>
  some (0, ((3, 0) : zV), μ4)
theorem eh_X19_init {B : Nat} {τ : zM} {x0 x1 x2 x3 : Int} {μ : cM} (h : cOK B τ μ.2) : hR (hf B) (hp B τ) (f_X19_init x0 x1 x2 x3 (cw B μ)) (h_X19_init x0 x1 x2 x3 μ) := by
  unfold f_X19_init h_X19_init
  refine hx_gd ?_
  refine hx_cv (eh_J22_init h) (fun μ1 h => ?_)
  refine hx_gd ?_
  refine he_pd h 1900 ⟨by decide, by decide⟩ rfl (fun μ2 h => ?_)
  refine he_pd h 1901 ⟨by decide, by decide⟩ rfl (fun μ3 h => ?_)
  refine he_pd h 1902 ⟨by decide, by decide⟩ rfl (fun μ4 h => ?_)
  first | exact hx_some rfl h | exact hx_some rfl trivial
def HRC_G_X7_and (B : Nat) (τ : zM) (rc : Nat → List Int → zM → Option zO) (rc' : Nat → List Int → cM → Option cO) : Prop :=
  (∀ {x1 : Int} {μ : cM}, cOK B τ μ.2 → hR (hf B) (hp B τ) (rc 0 [cad B 5 1, x1] (cw B μ)) (rc' 0 [x1] μ)) ∧
  (∀ {x1 : Int} {μ : cM}, cOK B τ μ.2 → hR (hf B) (hp B τ) (rc 1 [cad B 5 1, x1] (cw B μ)) (rc' 1 [x1] μ)) ∧
  (∀ {x1 : Int} {μ : cM}, cOK B τ μ.2 → hR (hf B) (hp B τ) (rc 2 [cad B 5 1, x1] (cw B μ)) (rc' 2 [x1] μ)) ∧
  (∀ {x1 : Int} {μ : cM}, cOK B τ μ.2 → hR (hf B) (hp B τ) (rc 3 [cad B 5 1, x1] (cw B μ)) (rc' 3 [x1] μ)) ∧ True
noncomputable def h_X7_and_34 (rc' : Nat → List Int → cM → Option cO) (x2 : Int) (μ : cM) : Option cO :=
  some (0, zr x2, μ)
theorem eh_X7_and_34 {B : Nat} {τ : zM} {rc : Nat → List Int → zM → Option zO} {rc' : Nat → List Int → cM → Option cO} (hrc : HRC_G_X7_and B τ rc rc') {x2 : Int} {μ : cM} (h : cOK B τ μ.2) : hR (hf B) (hp B τ) (f_X7_and_34 rc x2 (cw B μ)) (h_X7_and_34 rc' x2 μ) := by
  unfold f_X7_and_34 h_X7_and_34
  first | exact hx_some rfl h | exact hx_some rfl trivial
noncomputable def h_X7_and_6_b (rc' : Nat → List Int → cM → Option cO) (x1 x2 : Int) (μ : cM) : Option ((Int × cM) ⊕ cO) :=
  hci (h_X5_take 1 38 μ) fun v1 μ2 =>
  if v1 = 0 then
    (h_X7_and_34 rc' x2 μ2).map (fun r => (.inr r))
  else
    (hup μ2 (znO μ2.2 19 3)).bind fun μ3 =>
    zlet ((↑(zN μ2.2) : Int)) fun y4 =>
    hcrT (rc' 3 [x1] μ3) (fun n a μ6 => some (.inr (n + 1, zr a, μ6))) fun v5 μ6 =>
    zgd (decide (0 ≤ y4)) <|
    hcv (h_X19_init y4 38 x2 v5 μ6) fun μ7 =>
    some (.inl (y4, μ7))
theorem eh_X7_and_6_b {B : Nat} {τ : zM} {rc : Nat → List Int → zM → Option zO} {rc' : Nat → List Int → cM → Option cO} (hrc : HRC_G_X7_and B τ rc rc') {x1 x2 : Int} {μ : cM} (h : cOK B τ μ.2) : hR (Sum.map (fun s => (s.1, cw B s.2)) (hf B)) (Sum.elim (fun s : Int × cM => cOK B τ s.2.2) (hp B τ)) (f_X7_and_6_b rc (cad B 5 1) x1 x2 (cw B μ)) (h_X7_and_6_b rc' x1 x2 μ) := by
  unfold f_X7_and_6_b h_X7_and_6_b
  refine hx_is h ⟨rfl, by decide, by decide⟩ ?_
  refine hx_ci (eh_X5_take h) (fun v1 μ2 h => ?_)
  refine hx_if ?_ ?_
  · exact hx_map (eh_X7_and_34 hrc h) (fun r => rfl) (fun r q => q)
  · refine he_nO h (fun μ3 h => ?_)
    refine hx_let (fun y4 => ?_)
    refine hx_crT (hrc.2.2.2.1 h) (fun n a μ6 h => hx_some rfl h) (fun v5 μ6 h => ?_)
    refine hx_gd ?_
    refine hx_cv (eh_X19_init h) (fun μ7 h => ?_)
    first | exact hx_some rfl h | exact hx_some rfl trivial
noncomputable def h_X7_and_6 (rc' : Nat → List Int → cM → Option cO) (x1 x2 : Int) (μ : cM) : Option cO :=
  zloop (fun s : Int × cM => h_X7_and_6_b rc' x1 s.1 s.2) (x2, μ)
theorem eh_X7_and_6 {B : Nat} {τ : zM} {rc : Nat → List Int → zM → Option zO} {rc' : Nat → List Int → cM → Option cO} (hrc : HRC_G_X7_and B τ rc rc') {x1 x2 : Int} {μ : cM} (h : cOK B τ μ.2) : hR (hf B) (hp B τ) (f_X7_and_6 rc (cad B 5 1) x1 x2 (cw B μ)) (h_X7_and_6 rc' x1 x2 μ) := by
  unfold f_X7_and_6 h_X7_and_6
  refine hx_loop (φ := (fun s => (s.1, cw B s.2))) (Ps := (fun s : Int × cM => cOK B τ s.2.2)) (s := (x2, μ)) h (fun s hs => ?_)
  exact eh_X7_and_6_b hrc hs
noncomputable def h_X7_and (rc' : Nat → List Int → cM → Option cO) (x1 : Int) (μ : cM) : Option cO :=
  hcrT (rc' 3 [x1] μ) (fun n a μ2 => some (n + 1, zr a, μ2)) fun v1 μ2 =>
  h_X7_and_6 rc' x1 v1 μ2
theorem eh_X7_and {B : Nat} {τ : zM} {rc : Nat → List Int → zM → Option zO} {rc' : Nat → List Int → cM → Option cO} (hrc : HRC_G_X7_and B τ rc rc') {x1 : Int} {μ : cM} (h : cOK B τ μ.2) : hR (hf B) (hp B τ) (f_X7_and rc (cad B 5 1) x1 (cw B μ)) (h_X7_and rc' x1 μ) := by
  unfold f_X7_and h_X7_and
  refine hx_crT (hrc.2.2.2.1 h) (fun n a μ2 h => hx_some rfl h) (fun v1 μ2 h => ?_)
  exact (eh_X7_and_6 hrc h)
noncomputable def h_X7_implied_66 (rc' : Nat → List Int → cM → Option cO) (t0 : Int) (μ : cM) : Option cO :=
  some (0, zr t0, μ)
theorem eh_X7_implied_66 {B : Nat} {τ : zM} {rc : Nat → List Int → zM → Option zO} {rc' : Nat → List Int → cM → Option cO} (hrc : HRC_G_X7_and B τ rc rc') {t0 : Int} {μ : cM} (h : cOK B τ μ.2) : hR (hf B) (hp B τ) (f_X7_implied_66 rc t0 (cw B μ)) (h_X7_implied_66 rc' t0 μ) := by
  unfold f_X7_implied_66 h_X7_implied_66
  first | exact hx_some rfl h | exact hx_some rfl trivial
noncomputable def h_X7_implied_34 (rc' : Nat → List Int → cM → Option cO) (x1 x2 : Int) (μ : cM) : Option cO :=
  hci (h_X5_now 1 μ) fun v1 μ2 =>
  if v1 ≠ 62 then
    h_X7_implied_66 rc' x2 μ2
  else
    (hup μ2 (znO μ2.2 19 3)).bind fun μ3 =>
    zlet ((↑(zN μ2.2) : Int)) fun y4 =>
    hciT (h_X7_deeper x1 μ3) (fun n a μ6 => some (n + 1, zr a, μ6)) fun v5 μ6 =>
    hcrT (rc' 1 [v5] μ6) (fun n a μ8 => some (n + 1, zr a, μ8)) fun v7 μ8 =>
    zgd (decide (0 ≤ y4)) <|
    hcv (h_X19_init y4 62 x2 v7 μ8) fun μ9 =>
    h_X7_implied_66 rc' y4 μ9
theorem eh_X7_implied_34 {B : Nat} {τ : zM} {rc : Nat → List Int → zM → Option zO} {rc' : Nat → List Int → cM → Option cO} (hrc : HRC_G_X7_and B τ rc rc') {x1 x2 : Int} {μ : cM} (h : cOK B τ μ.2) : hR (hf B) (hp B τ) (f_X7_implied_34 rc (cad B 5 1) x1 x2 (cw B μ)) (h_X7_implied_34 rc' x1 x2 μ) := by
  unfold f_X7_implied_34 h_X7_implied_34
  refine hx_is h ⟨rfl, by decide, by decide⟩ ?_
  refine hx_ci (eh_X5_now h) (fun v1 μ2 h => ?_)
  refine hx_if ?_ ?_
  · exact (eh_X7_implied_66 hrc h)
  · refine he_nO h (fun μ3 h => ?_)
    refine hx_let (fun y4 => ?_)
    refine hx_is h ⟨rfl, by decide, by decide⟩ ?_
    refine hx_ciT (eh_X7_deeper h) (fun n a μ6 h => hx_some rfl h) (fun v5 μ6 h => ?_)
    refine hx_crT (hrc.2.1 h) (fun n a μ8 h => hx_some rfl h) (fun v7 μ8 h => ?_)
    refine hx_gd ?_
    refine hx_cv (eh_X19_init h) (fun μ9 h => ?_)
    exact (eh_X7_implied_66 hrc h)
noncomputable def h_X7_implied_6_b (rc' : Nat → List Int → cM → Option cO) (x1 x2 : Int) (μ : cM) : Option ((Int × cM) ⊕ cO) :=
  hci (h_X5_take 1 124 μ) fun v1 μ2 =>
  if v1 = 0 then
    (h_X7_implied_34 rc' x1 x2 μ2).map (fun r => (.inr r))
  else
    (hup μ2 (znO μ2.2 19 3)).bind fun μ3 =>
    zlet ((↑(zN μ2.2) : Int)) fun y4 =>
    hcrT (rc' 0 [x1] μ3) (fun n a μ6 => some (.inr (n + 1, zr a, μ6))) fun v5 μ6 =>
    zgd (decide (0 ≤ y4)) <|
    hcv (h_X19_init y4 124 x2 v5 μ6) fun μ7 =>
    some (.inl (y4, μ7))
theorem eh_X7_implied_6_b {B : Nat} {τ : zM} {rc : Nat → List Int → zM → Option zO} {rc' : Nat → List Int → cM → Option cO} (hrc : HRC_G_X7_and B τ rc rc') {x1 x2 : Int} {μ : cM} (h : cOK B τ μ.2) : hR (Sum.map (fun s => (s.1, cw B s.2)) (hf B)) (Sum.elim (fun s : Int × cM => cOK B τ s.2.2) (hp B τ)) (f_X7_implied_6_b rc (cad B 5 1) x1 x2 (cw B μ)) (h_X7_implied_6_b rc' x1 x2 μ) := by
  unfold f_X7_implied_6_b h_X7_implied_6_b
  refine hx_is h ⟨rfl, by decide, by decide⟩ ?_
  refine hx_ci (eh_X5_take h) (fun v1 μ2 h => ?_)
  refine hx_if ?_ ?_
  · exact hx_map (eh_X7_implied_34 hrc h) (fun r => rfl) (fun r q => q)
  · refine he_nO h (fun μ3 h => ?_)
    refine hx_let (fun y4 => ?_)
    refine hx_crT (hrc.1 h) (fun n a μ6 h => hx_some rfl h) (fun v5 μ6 h => ?_)
    refine hx_gd ?_
    refine hx_cv (eh_X19_init h) (fun μ7 h => ?_)
    first | exact hx_some rfl h | exact hx_some rfl trivial
noncomputable def h_X7_implied_6 (rc' : Nat → List Int → cM → Option cO) (x1 x2 : Int) (μ : cM) : Option cO :=
  zloop (fun s : Int × cM => h_X7_implied_6_b rc' x1 s.1 s.2) (x2, μ)
theorem eh_X7_implied_6 {B : Nat} {τ : zM} {rc : Nat → List Int → zM → Option zO} {rc' : Nat → List Int → cM → Option cO} (hrc : HRC_G_X7_and B τ rc rc') {x1 x2 : Int} {μ : cM} (h : cOK B τ μ.2) : hR (hf B) (hp B τ) (f_X7_implied_6 rc (cad B 5 1) x1 x2 (cw B μ)) (h_X7_implied_6 rc' x1 x2 μ) := by
  unfold f_X7_implied_6 h_X7_implied_6
  refine hx_loop (φ := (fun s => (s.1, cw B s.2))) (Ps := (fun s : Int × cM => cOK B τ s.2.2)) (s := (x2, μ)) h (fun s hs => ?_)
  exact eh_X7_implied_6_b hrc hs
noncomputable def h_X7_implied (rc' : Nat → List Int → cM → Option cO) (x1 : Int) (μ : cM) : Option cO :=
  hcrT (rc' 0 [x1] μ) (fun n a μ2 => some (n + 1, zr a, μ2)) fun v1 μ2 =>
  h_X7_implied_6 rc' x1 v1 μ2
theorem eh_X7_implied {B : Nat} {τ : zM} {rc : Nat → List Int → zM → Option zO} {rc' : Nat → List Int → cM → Option cO} (hrc : HRC_G_X7_and B τ rc rc') {x1 : Int} {μ : cM} (h : cOK B τ μ.2) : hR (hf B) (hp B τ) (f_X7_implied rc (cad B 5 1) x1 (cw B μ)) (h_X7_implied rc' x1 μ) := by
  unfold f_X7_implied h_X7_implied
  refine hx_crT (hrc.1 h) (fun n a μ2 h => hx_some rfl h) (fun v1 μ2 h => ?_)
  exact (eh_X7_implied_6 hrc h)
noncomputable def h_X7_unit_17 (rc' : Nat → List Int → cM → Option cO) (x2 : Int) (μ : cM) : Option cO :=
  hcrT (h_X7_proposition x2 μ) (fun n a μ2 => some (n + 1, zr a, μ2)) fun v1 μ2 =>
  some (0, zr v1, μ2)
theorem eh_X7_unit_17 {B : Nat} {τ : zM} {rc : Nat → List Int → zM → Option zO} {rc' : Nat → List Int → cM → Option cO} (hrc : HRC_G_X7_and B τ rc rc') {x2 : Int} {μ : cM} (h : cOK B τ μ.2) : hR (hf B) (hp B τ) (f_X7_unit_17 rc (cad B 5 1) x2 (cw B μ)) (h_X7_unit_17 rc' x2 μ) := by
  unfold f_X7_unit_17 h_X7_unit_17
  refine hx_is h ⟨rfl, by decide, by decide⟩ ?_
  refine hx_crT (eh_X7_proposition h) (fun n a μ2 h => hx_some rfl h) (fun v1 μ2 h => ?_)
  first | exact hx_some rfl h | exact hx_some rfl trivial
noncomputable def h_X7_unit_133 (rc' : Nat → List Int → cM → Option cO) (t0 : Int) (μ : cM) : Option cO :=
  some (0, zr t0, μ)
theorem eh_X7_unit_133 {B : Nat} {τ : zM} {rc : Nat → List Int → zM → Option zO} {rc' : Nat → List Int → cM → Option cO} (hrc : HRC_G_X7_and B τ rc rc') {t0 : Int} {μ : cM} (h : cOK B τ μ.2) : hR (hf B) (hp B τ) (f_X7_unit_133 rc t0 (cw B μ)) (h_X7_unit_133 rc' t0 μ) := by
  unfold f_X7_unit_133 h_X7_unit_133
  first | exact hx_some rfl h | exact hx_some rfl trivial
noncomputable def h_X7_unit_71 (rc' : Nat → List Int → cM → Option cO) (x1 x2 : Int) (μ : cM) : Option cO :=
  hciT (h_X7_deeper x1 μ) (fun n a μ2 => some (n + 1, zr a, μ2)) fun v1 μ2 =>
  if x2 ≠ 40 then
    hcrT (rc' 2 [v1] μ2) (fun n a μ4 => some (n + 1, zr a, μ4)) fun v3 μ4 =>
    if x2 ≠ 33 then
      hcr (h_X7_close x2 v3 v3 μ4) fun v5 μ6 =>
      h_X7_unit_133 rc' v5 μ6
    else
      (hup μ4 (znO μ4.2 17 1)).bind fun μ7 =>
      zlet ((↑(zN μ4.2) : Int)) fun y8 =>
      zgd (decide (0 ≤ y8)) <|
      hcv (h_X17_init y8 v3 μ7) fun μ9 =>
      h_X7_unit_133 rc' y8 μ9
  else
    hcrT (rc' 1 [v1] μ2) (fun n a μ11 => some (n + 1, zr a, μ11)) fun v10 μ11 =>
    hcvT (h_X5_sign 1 41 μ11) (fun n a μ12 => some (n + 1, zr a, μ12)) fun μ12 =>
    some (0, zr v10, μ12)
theorem eh_X7_unit_71 {B : Nat} {τ : zM} {rc : Nat → List Int → zM → Option zO} {rc' : Nat → List Int → cM → Option cO} (hrc : HRC_G_X7_and B τ rc rc') {x1 x2 : Int} {μ : cM} (h : cOK B τ μ.2) : hR (hf B) (hp B τ) (f_X7_unit_71 rc (cad B 5 1) x1 x2 (cw B μ)) (h_X7_unit_71 rc' x1 x2 μ) := by
  unfold f_X7_unit_71 h_X7_unit_71
  refine hx_is h ⟨rfl, by decide, by decide⟩ ?_
  refine hx_ciT (eh_X7_deeper h) (fun n a μ2 h => hx_some rfl h) (fun v1 μ2 h => ?_)
  refine hx_if ?_ ?_
  · refine hx_crT (hrc.2.2.1 h) (fun n a μ4 h => hx_some rfl h) (fun v3 μ4 h => ?_)
    refine hx_if ?_ ?_
    · refine hx_is h ⟨rfl, by decide, by decide⟩ ?_
      refine hx_cr (eh_X7_close h) (fun v5 μ6 h => ?_)
      exact (eh_X7_unit_133 hrc h)
    · refine he_nO h (fun μ7 h => ?_)
      refine hx_let (fun y8 => ?_)
      refine hx_gd ?_
      refine hx_cv (eh_X17_init h) (fun μ9 h => ?_)
      exact (eh_X7_unit_133 hrc h)
  · refine hx_crT (hrc.2.1 h) (fun n a μ11 h => hx_some rfl h) (fun v10 μ11 h => ?_)
    refine hx_is h ⟨rfl, by decide, by decide⟩ ?_
    refine hx_cvT (eh_X5_sign h) (fun n a μ12 h => hx_some rfl h) (fun μ12 h => ?_)
    first | exact hx_some rfl h | exact hx_some rfl trivial
noncomputable def h_X7_unit_67 (rc' : Nat → List Int → cM → Option cO) (x1 x2 : Int) (μ : cM) : Option cO :=
  hcvT (h_X7_open μ) (fun n a μ1 => some (n + 1, zr a, μ1)) fun μ1 =>
  h_X7_unit_71 rc' x1 x2 μ1
theorem eh_X7_unit_67 {B : Nat} {τ : zM} {rc : Nat → List Int → zM → Option zO} {rc' : Nat → List Int → cM → Option cO} (hrc : HRC_G_X7_and B τ rc rc') {x1 x2 : Int} {μ : cM} (h : cOK B τ μ.2) : hR (hf B) (hp B τ) (f_X7_unit_67 rc (cad B 5 1) x1 x2 (cw B μ)) (h_X7_unit_67 rc' x1 x2 μ) := by
  unfold f_X7_unit_67 h_X7_unit_67
  refine hx_is h ⟨rfl, by decide, by decide⟩ ?_
  refine hx_cvT (eh_X7_open h) (fun n a μ1 h => hx_some rfl h) (fun μ1 h => ?_)
  exact (eh_X7_unit_71 hrc h)
noncomputable def h_X7_unit_52 (rc' : Nat → List Int → cM → Option cO) (x1 x2 t0 : Int) (μ : cM) : Option cO :=
  hcvT (h_X5_need t0 μ) (fun n a μ1 => some (n + 1, zr a, μ1)) fun μ1 =>
  if x2 = 71 then
    h_X7_unit_67 rc' x1 x2 μ1
  else
    if x2 ≠ 70 then
      h_X7_unit_71 rc' x1 x2 μ1
    else
      h_X7_unit_67 rc' x1 x2 μ1
theorem eh_X7_unit_52 {B : Nat} {τ : zM} {rc : Nat → List Int → zM → Option zO} {rc' : Nat → List Int → cM → Option cO} (hrc : HRC_G_X7_and B τ rc rc') {x1 x2 t0 : Int} {μ : cM} (h : cOK B τ μ.2) : hR (hf B) (hp B τ) (f_X7_unit_52 rc (cad B 5 1) x1 x2 t0 (cw B μ)) (h_X7_unit_52 rc' x1 x2 t0 μ) := by
  unfold f_X7_unit_52 h_X7_unit_52
  refine hx_cvT (eh_X5_need h) (fun n a μ1 h => hx_some rfl h) (fun μ1 h => ?_)
  refine hx_if ?_ ?_
  · exact (eh_X7_unit_67 hrc h)
  · refine hx_if ?_ ?_
    · exact (eh_X7_unit_71 hrc h)
    · exact (eh_X7_unit_67 hrc h)
noncomputable def h_X7_unit_47 (rc' : Nat → List Int → cM → Option cO) (x1 x2 : Int) (μ : cM) : Option cO :=
  h_X7_unit_52 rc' x1 x2 1 μ
theorem eh_X7_unit_47 {B : Nat} {τ : zM} {rc : Nat → List Int → zM → Option zO} {rc' : Nat → List Int → cM → Option cO} (hrc : HRC_G_X7_and B τ rc rc') {x1 x2 : Int} {μ : cM} (h : cOK B τ μ.2) : hR (hf B) (hp B τ) (f_X7_unit_47 rc (cad B 5 1) x1 x2 (cw B μ)) (h_X7_unit_47 rc' x1 x2 μ) := by
  unfold f_X7_unit_47 h_X7_unit_47
  exact (eh_X7_unit_52 hrc h)
noncomputable def h_X7_unit (rc' : Nat → List Int → cM → Option cO) (x1 : Int) (μ : cM) : Option cO :=
  hci (h_X5_now 1 μ) fun v1 μ2 =>
  if v1 = 123 then
    h_X7_unit_17 rc' v1 μ2
  else
    if v1 ≠ 64 then
      if v1 = 33 then
        h_X7_unit_47 rc' x1 v1 μ2
      else
        if v1 = 71 then
          h_X7_unit_47 rc' x1 v1 μ2
        else
          if v1 = 70 then
            h_X7_unit_47 rc' x1 v1 μ2
          else
            if v1 ≠ 40 then
              h_X7_unit_52 rc' x1 v1 0 μ2
            else
              h_X7_unit_47 rc' x1 v1 μ2
    else
      h_X7_unit_17 rc' v1 μ2
theorem eh_X7_unit {B : Nat} {τ : zM} {rc : Nat → List Int → zM → Option zO} {rc' : Nat → List Int → cM → Option cO} (hrc : HRC_G_X7_and B τ rc rc') {x1 : Int} {μ : cM} (h : cOK B τ μ.2) : hR (hf B) (hp B τ) (f_X7_unit rc (cad B 5 1) x1 (cw B μ)) (h_X7_unit rc' x1 μ) := by
  unfold f_X7_unit h_X7_unit
  refine hx_is h ⟨rfl, by decide, by decide⟩ ?_
  refine hx_ci (eh_X5_now h) (fun v1 μ2 h => ?_)
  refine hx_if ?_ ?_
  · exact (eh_X7_unit_17 hrc h)
  · refine hx_if ?_ ?_
    · refine hx_if ?_ ?_
      · exact (eh_X7_unit_47 hrc h)
      · refine hx_if ?_ ?_
        · exact (eh_X7_unit_47 hrc h)
        · refine hx_if ?_ ?_
          · exact (eh_X7_unit_47 hrc h)
          · refine hx_if ?_ ?_
            · exact (eh_X7_unit_52 hrc h)
            · exact (eh_X7_unit_47 hrc h)
    · exact (eh_X7_unit_17 hrc h)
noncomputable def h_X7_until_25 (rc' : Nat → List Int → cM → Option cO) (x1 x2 x3 : Int) (μ : cM) : Option cO :=
  hcvT (h_X7_open μ) (fun n a μ1 => some (n + 1, zr a, μ1)) fun μ1 =>
  hciT (h_X7_deeper x1 μ1) (fun n a μ3 => some (n + 1, zr a, μ3)) fun v2 μ3 =>
  hcrT (rc' 3 [v2] μ3) (fun n a μ5 => some (n + 1, zr a, μ5)) fun v4 μ5 =>
  hcr (h_X7_close x3 x2 v4 μ5) fun v6 μ7 =>
  some (0, zr v6, μ7)
theorem eh_X7_until_25 {B : Nat} {τ : zM} {rc : Nat → List Int → zM → Option zO} {rc' : Nat → List Int → cM → Option cO} (hrc : HRC_G_X7_and B τ rc rc') {x1 x2 x3 : Int} {μ : cM} (h : cOK B τ μ.2) : hR (hf B) (hp B τ) (f_X7_until_25 rc (cad B 5 1) x1 x2 x3 (cw B μ)) (h_X7_until_25 rc' x1 x2 x3 μ) := by
  unfold f_X7_until_25 h_X7_until_25
  refine hx_is h ⟨rfl, by decide, by decide⟩ ?_
  refine hx_cvT (eh_X7_open h) (fun n a μ1 h => hx_some rfl h) (fun μ1 h => ?_)
  refine hx_is h ⟨rfl, by decide, by decide⟩ ?_
  refine hx_ciT (eh_X7_deeper h) (fun n a μ3 h => hx_some rfl h) (fun v2 μ3 h => ?_)
  refine hx_crT (hrc.2.2.2.1 h) (fun n a μ5 h => hx_some rfl h) (fun v4 μ5 h => ?_)
  refine hx_is h ⟨rfl, by decide, by decide⟩ ?_
  refine hx_cr (eh_X7_close h) (fun v6 μ7 h => ?_)
  first | exact hx_some rfl h | exact hx_some rfl trivial
noncomputable def h_X7_until (rc' : Nat → List Int → cM → Option cO) (x1 : Int) (μ : cM) : Option cO :=
  hcrT (rc' 2 [x1] μ) (fun n a μ2 => some (n + 1, zr a, μ2)) fun v1 μ2 =>
  hci (h_X5_now 1 μ2) fun v3 μ4 =>
  if v3 = 85 then
    h_X7_until_25 rc' x1 v1 v3 μ4
  else
    if v3 = 82 then
      h_X7_until_25 rc' x1 v1 v3 μ4
    else
      some (0, zr v1, μ4)
theorem eh_X7_until {B : Nat} {τ : zM} {rc : Nat → List Int → zM → Option zO} {rc' : Nat → List Int → cM → Option cO} (hrc : HRC_G_X7_and B τ rc rc') {x1 : Int} {μ : cM} (h : cOK B τ μ.2) : hR (hf B) (hp B τ) (f_X7_until rc (cad B 5 1) x1 (cw B μ)) (h_X7_until rc' x1 μ) := by
  unfold f_X7_until h_X7_until
  refine hx_crT (hrc.2.2.1 h) (fun n a μ2 h => hx_some rfl h) (fun v1 μ2 h => ?_)
  refine hx_is h ⟨rfl, by decide, by decide⟩ ?_
  refine hx_ci (eh_X5_now h) (fun v3 μ4 h => ?_)
  refine hx_if ?_ ?_
  · exact (eh_X7_until_25 hrc h)
  · refine hx_if ?_ ?_
    · exact (eh_X7_until_25 hrc h)
    · first | exact hx_some rfl h | exact hx_some rfl trivial
noncomputable def h_G_X7_and : Nat → Nat → List Int → cM → Option cO
  | 0, _, _, _ => none
  | d + 1, tg, as, μ => match tg, as with
    | 0, [x1] => h_X7_and (h_G_X7_and d) x1 μ
    | 1, [x1] => h_X7_implied (h_G_X7_and d) x1 μ
    | 2, [x1] => h_X7_unit (h_G_X7_and d) x1 μ
    | 3, [x1] => h_X7_until (h_G_X7_and d) x1 μ
    | _, _ => none
theorem eh_G_X7_and (B : Nat) (τ : zM) : ∀ d : Nat, HRC_G_X7_and B τ (f_G_X7_and d) (h_G_X7_and d)
  | 0 => ⟨(fun _ => hR_none _ _), (fun _ => hR_none _ _), (fun _ => hR_none _ _), (fun _ => hR_none _ _), trivial⟩
  | d + 1 => ⟨(fun h => eh_X7_and (eh_G_X7_and B τ d) h), (fun h => eh_X7_implied (eh_G_X7_and B τ d) h), (fun h => eh_X7_unit (eh_G_X7_and B τ d) h), (fun h => eh_X7_until (eh_G_X7_and B τ d) h), trivial⟩
noncomputable def h_X7_read_40 (x1 t0 : Int) (μ : cM) : Option cO :=
  hcvT (h_X5_need t0 μ) (fun n a μ1 => some (n + 1, zr a, μ1)) fun μ1 =>
  some (0, zr x1, μ1)
theorem eh_X7_read_40 {B : Nat} {τ : zM} {x1 t0 : Int} {μ : cM} (h : cOK B τ μ.2) : hR (hf B) (hp B τ) (f_X7_read_40 x1 t0 (cw B μ)) (h_X7_read_40 x1 t0 μ) := by
  unfold f_X7_read_40 h_X7_read_40
  refine hx_cvT (eh_X5_need h) (fun n a μ1 h => hx_some rfl h) (fun μ1 h => ?_)
  first | exact hx_some rfl h | exact hx_some rfl trivial
noncomputable def h_X7_read (μ : cM) : Option cO :=
  hwl (hS μ 707 1 0) fun μ1 =>
  hwl (hS μ1 708 1 0) fun μ2 =>
  hwl (hS μ2 709 1 0) fun μ3 =>
  hcrT (h_G_X7_and 40 1 [0] μ3) (fun n a μ5 => some (n + 1, zr a, μ5)) fun v4 μ5 =>
  zlet (hG μ5 502 1) fun v6 =>
  zlet (hG μ5 501 1) fun v7 =>
  zgd (zis μ5.2 22 v7) <|
  hci (h_J2_length v7 μ5) fun v8 μ9 =>
  if v6 ≠ v8 then
    h_X7_read_40 v4 0 μ9
  else
    h_X7_read_40 v4 1 μ9
theorem eh_X7_read {B : Nat} {τ : zM} {μ : cM} (h : cOK B τ μ.2) : hR (hf B) (hp B τ) (f_X7_read (cad B 5 1) (cw B μ)) (h_X7_read  μ) := by
  unfold f_X7_read h_X7_read
  refine he_ps h (f := 707) (c := 5) (o := 1) ⟨rfl, by decide, by decide⟩ rfl (fun μ1 h => ?_)
  refine he_ps h (f := 708) (c := 5) (o := 1) ⟨rfl, by decide, by decide⟩ rfl (fun μ2 h => ?_)
  refine he_ps h (f := 709) (c := 5) (o := 1) ⟨rfl, by decide, by decide⟩ rfl (fun μ3 h => ?_)
  refine hx_crT ((eh_G_X7_and B τ 40).2.1 h) (fun n a μ5 h => hx_some rfl h) (fun v4 μ5 h => ?_)
  refine he_gs h (f := 502) (c := 5) (o := 1) ⟨rfl, by decide, by decide⟩ rfl (fun v6 => ?_)
  refine he_gs h (f := 501) (c := 5) (o := 1) ⟨rfl, by decide, by decide⟩ rfl (fun v7 => ?_)
  refine hx_gd ?_
  refine hx_ci (eh_J2_length h) (fun v8 μ9 h => ?_)
  refine hx_if ?_ ?_
  · exact (eh_X7_read_40 h)
  · exact (eh_X7_read_40 h)
noncomputable def h_X1_formula_32 (t0 : Int) (μ : cM) : Option cO :=
  zlet (hG μ 502 1) fun v2 =>
  hwl (hS μ 108 0 v2) fun μ3 =>
  (hup μ3 (znX μ3.2 51)).bind fun μ4 =>
  zgd (zis μ4.2 51 (↑(zN μ3.2) : Int)) <|
  some (1, zr (↑(zN μ3.2) : Int), μ4)
theorem eh_X1_formula_32 {B : Nat} {τ : zM} {t0 : Int} {μ : cM} (h : cOK B τ μ.2) : hR (hf B) (hp B τ) (f_X1_formula_32 (cad B 1 0) t0 (cw B μ)) (h_X1_formula_32 t0 μ) := by
  unfold f_X1_formula_32 h_X1_formula_32
  refine he_gr h (f := 103) (c := 1) (o := 0) ⟨by decide, by decide⟩ rfl ?_
  refine he_gs h (f := 502) (c := 5) (o := 1) ⟨rfl, by decide, by decide⟩ rfl (fun v2 => ?_)
  refine he_ps h (f := 108) (c := 1) (o := 0) ⟨rfl, by decide, by decide⟩ rfl (fun μ3 h => ?_)
  refine he_nX h (fun μ4 h => ?_)
  refine hx_gd ?_
  first | exact hx_some rfl h | exact hx_some rfl trivial
noncomputable def h_X1_formula (μ : cM) : Option cO :=
  hcr (h_X1_taken μ) fun v2 μ3 =>
  hcv (h_X5_begin 1 v2 μ3) fun μ4 =>
  zlet (hG μ4 106 0) fun v5 =>
  hcvT (h_X1_need v5 μ4) (fun n a μ6 => some (n + 1, zr a, μ6)) fun μ6 =>
  hcrT (h_X7_read μ6) (fun n a μ9 => if n = 0 then h_X1_formula_32 a μ9 else none) fun v8 μ9 =>
  hwl (hS μ9 105 0 v8) fun μ10 =>
  zlet (hG μ10 707 1) fun v12 =>
  some (0, zi v12, μ10)
theorem eh_X1_formula {B : Nat} {τ : zM} {μ : cM} (h : cOK B τ μ.2) : hR (hf B) (hp B τ) (f_X1_formula (cad B 1 0) (cw B μ)) (h_X1_formula  μ) := by
  unfold f_X1_formula h_X1_formula
  refine he_gr h (f := 103) (c := 1) (o := 0) ⟨by decide, by decide⟩ rfl ?_
  refine hx_is h ⟨rfl, by decide, by decide⟩ ?_
  refine hx_cr (eh_X1_taken h) (fun v2 μ3 h => ?_)
  refine hx_is h ⟨rfl, by decide, by decide⟩ ?_
  refine hx_cv (eh_X5_begin h) (fun μ4 h => ?_)
  refine he_gs h (f := 106) (c := 1) (o := 0) ⟨rfl, by decide, by decide⟩ rfl (fun v5 => ?_)
  refine hx_cvT (eh_X1_need h) (fun n a μ6 h => hx_some rfl h) (fun μ6 h => ?_)
  refine he_gr h (f := 103) (c := 1) (o := 0) ⟨by decide, by decide⟩ rfl ?_
  refine hx_is h ⟨rfl, by decide, by decide⟩ ?_
  refine hx_crT (eh_X7_read h) (fun n a μ9 h => hx_if (eh_X1_formula_32 h) (hR_none _ _)) (fun v8 μ9 h => ?_)
  refine he_ps h (f := 105) (c := 1) (o := 0) ⟨rfl, by decide, by decide⟩ rfl (fun μ10 h => ?_)
  refine he_gr h (f := 103) (c := 1) (o := 0) ⟨by decide, by decide⟩ rfl ?_
  refine he_gs h (f := 707) (c := 5) (o := 1) ⟨rfl, by decide, by decide⟩ rfl (fun v12 => ?_)
  first | exact hx_some rfl h | exact hx_some rfl trivial
noncomputable def h_X15_isSo_52 (t0 : Int) (μ : cM) : Option cO :=
  zgd (z01 t0) <|
  some (0, zi t0, μ)
theorem eh_X15_isSo_52 {B : Nat} {τ : zM} {t0 : Int} {μ : cM} (h : cOK B τ μ.2) : hR (hf B) (hp B τ) (f_X15_isSo_52 t0 (cw B μ)) (h_X15_isSo_52 t0 μ) := by
  unfold f_X15_isSo_52 h_X15_isSo_52
  refine hx_gd ?_
  first | exact hx_some rfl h | exact hx_some rfl trivial
noncomputable def h_X15_isSo (x0 x1 : Int) (μ : cM) : Option cO :=
  (zgf μ.2 1500 x0).bind fun v1 =>
  if v1 = (-1) then
    (zgf μ.2 1501 x0).bind fun v3 =>
    (hga μ 302 x1 v3).bind fun v4 =>
    (zgf μ.2 1502 x0).bind fun v5 =>
    if v4 ≠ v5 then
      h_X15_isSo_52 0 μ
    else
      h_X15_isSo_52 1 μ
  else
    (zgf μ.2 1500 x0).bind fun v6 =>
    hci ((if zis μ.2 13 v6 = true then h_X12_of v6 x1 μ else (if zis μ.2 14 v6 = true then h_X13_of v6 x1 μ else (if zis μ.2 15 v6 = true then h_G_X14_of 40 0 [v6, x1] μ else none)))) fun v8 μ9 =>
    if v8 = 0 then
      h_X15_isSo_52 0 μ9
    else
      h_X15_isSo_52 1 μ9
theorem eh_X15_isSo {B : Nat} {τ : zM} {x0 x1 : Int} {μ : cM} (h : cOK B τ μ.2) : hR (hf B) (hp B τ) (f_X15_isSo x0 (cad B 3 x1) (cw B μ)) (h_X15_isSo x0 x1 μ) := by
  unfold f_X15_isSo h_X15_isSo
  refine he_gd 1500 rfl (fun v1 => ?_)
  refine hx_if ?_ ?_
  · refine he_gA h (f := 302) (c := 3) (o := x1) ⟨rfl, by decide⟩ rfl ?_
    refine he_gd 1501 rfl (fun v3 => ?_)
    refine he_ga h (f := 302) (o := x1) ⟨⟨rfl, by decide, by decide⟩, rfl⟩ (fun v4 => ?_)
    refine he_gd 1502 rfl (fun v5 => ?_)
    refine hx_if ?_ ?_
    · exact (eh_X15_isSo_52 h)
    · exact (eh_X15_isSo_52 h)
  · refine he_gd 1500 rfl (fun v6 => ?_)
    refine he_gA h (f := 300) (c := 3) (o := x1) ⟨rfl, by decide⟩ rfl ?_
    refine hx_ci (hx_if (eh_X12_of h) (hx_if (eh_X13_of h) (hx_if ((eh_G_X14_of B τ 40).1 h) (hR_none _ _)))) (fun v8 μ9 h => ?_)
    refine hx_if ?_ ?_
    · exact (eh_X15_isSo_52 h)
    · exact (eh_X15_isSo_52 h)
noncomputable def h_X7_props_37 (x2 : Int) (μ : cM) : Option cO :=
  some (0, zi x2, μ)
theorem eh_X7_props_37 {B : Nat} {τ : zM} {x2 : Int} {μ : cM} (h : cOK B τ μ.2) : hR (hf B) (hp B τ) (f_X7_props_37 x2 (cw B μ)) (h_X7_props_37 x2 μ) := by
  unfold f_X7_props_37 h_X7_props_37
  first | exact hx_some rfl h | exact hx_some rfl trivial
noncomputable def h_X7_props_31 (x1 x2 x3 : Int) (μ : cM) : Option ((Int × Int × cM) ⊕ cO) :=
  zlet (zadd x3 1) fun y1 =>
  some (.inl (x2, y1, μ))
theorem eh_X7_props_31 {B : Nat} {τ : zM} {x1 x2 x3 : Int} {μ : cM} (h : cOK B τ μ.2) : hR (Sum.map (fun s => (s.1, s.2.1, cw B s.2.2)) (hf B)) (Sum.elim (fun s : Int × Int × cM => cOK B τ s.2.2.2) (hp B τ)) (f_X7_props_31 (cad B 5 1) (cad B 3 x1) x2 x3 (cw B μ)) (h_X7_props_31 x1 x2 x3 μ) := by
  unfold f_X7_props_31 h_X7_props_31
  refine hx_let (fun y1 => ?_)
  first | exact hx_some rfl h | exact hx_some rfl trivial
noncomputable def h_X7_props_4_b (x1 x2 x3 : Int) (μ : cM) : Option ((Int × Int × cM) ⊕ cO) :=
  zlet (hG μ 708 1) fun v1 =>
  if v1 ≤ x3 then
    (h_X7_props_37 x2 μ).map (fun r => (.inr r))
  else
    (hga μ 706 1 x3).bind fun v3 =>
    zgd (zis μ.2 16 v3) <|
    hci (h_X15_isSo v3 x1 μ) fun v4 μ5 =>
    if v4 = 0 then
      h_X7_props_31 x1 x2 x3 μ5
    else
      zlet ((zor x2 (zshl 1 x3))) fun y6 =>
      h_X7_props_31 x1 y6 x3 μ5
theorem eh_X7_props_4_b {B : Nat} {τ : zM} {x1 x2 x3 : Int} {μ : cM} (h : cOK B τ μ.2) : hR (Sum.map (fun s => (s.1, s.2.1, cw B s.2.2)) (hf B)) (Sum.elim (fun s : Int × Int × cM => cOK B τ s.2.2.2) (hp B τ)) (f_X7_props_4_b (cad B 5 1) (cad B 3 x1) x2 x3 (cw B μ)) (h_X7_props_4_b x1 x2 x3 μ) := by
  unfold f_X7_props_4_b h_X7_props_4_b
  refine he_gs h (f := 708) (c := 5) (o := 1) ⟨rfl, by decide, by decide⟩ rfl (fun v1 => ?_)
  refine hx_if ?_ ?_
  · exact hx_map (eh_X7_props_37 h) (fun r => rfl) (fun r q => q)
  · refine he_gA h (f := 706) (c := 5) (o := 1) ⟨rfl, by decide⟩ rfl ?_
    refine he_ga h (f := 706) (o := 1) ⟨⟨rfl, by decide, by decide⟩, rfl⟩ (fun v3 => ?_)
    refine hx_gd ?_
    refine hx_ci (eh_X15_isSo h) (fun v4 μ5 h => ?_)
    refine hx_if ?_ ?_
    · exact (eh_X7_props_31 h)
    · refine hx_let (fun y6 => ?_)
      exact (eh_X7_props_31 h)
noncomputable def h_X7_props_4 (x1 x2 x3 : Int) (μ : cM) : Option cO :=
  zloop (fun s : Int × Int × cM => h_X7_props_4_b x1 s.1 s.2.1 s.2.2) (x2, x3, μ)
theorem eh_X7_props_4 {B : Nat} {τ : zM} {x1 x2 x3 : Int} {μ : cM} (h : cOK B τ μ.2) : hR (hf B) (hp B τ) (f_X7_props_4 (cad B 5 1) (cad B 3 x1) x2 x3 (cw B μ)) (h_X7_props_4 x1 x2 x3 μ) := by
  unfold f_X7_props_4 h_X7_props_4
  refine hx_loop (φ := (fun s => (s.1, s.2.1, cw B s.2.2))) (Ps := (fun s : Int × Int × cM => cOK B τ s.2.2.2)) (s := (x2, x3, μ)) h (fun s hs => ?_)
  exact eh_X7_props_4_b hs
noncomputable def h_X7_props (x1 : Int) (μ : cM) : Option cO :=
  h_X7_props_4 x1 0 0 μ
theorem eh_X7_props {B : Nat} {τ : zM} {x1 : Int} {μ : cM} (h : cOK B τ μ.2) : hR (hf B) (hp B τ) (f_X7_props (cad B 5 1) (cad B 3 x1) (cw B μ)) (h_X7_props x1 μ) := by
  unfold f_X7_props h_X7_props
  exact (eh_X7_props_4 h)
noncomputable def h_X8_kinds (μ : cM) : Option cO :=
  zlet (hG μ 707 1) fun v2 =>
  some (0, zi (zshl 1 v2), μ)
theorem eh_X8_kinds {B : Nat} {τ : zM} {μ : cM} (h : cOK B τ μ.2) : hR (hf B) (hp B τ) (f_X8_kinds (cad B 8 0) (cw B μ)) (h_X8_kinds  μ) := by
  unfold f_X8_kinds h_X8_kinds
  refine he_gr h (f := 801) (c := 8) (o := 0) ⟨by decide, by decide⟩ rfl ?_
  refine he_gs h (f := 707) (c := 5) (o := 1) ⟨rfl, by decide, by decide⟩ rfl (fun v2 => ?_)
  first | exact hx_some rfl h | exact hx_some rfl trivial
noncomputable def h_X16_is_17 (t0 : Int) (μ : cM) : Option cO :=
  zgd (z01 t0) <|
  some (0, zi t0, μ)
theorem eh_X16_is_17 {B : Nat} {τ : zM} {t0 : Int} {μ : cM} (h : cOK B τ μ.2) : hR (hf B) (hp B τ) (f_X16_is_17 t0 (cw B μ)) (h_X16_is_17 t0 μ) := by
  unfold f_X16_is_17 h_X16_is_17
  refine hx_gd ?_
  first | exact hx_some rfl h | exact hx_some rfl trivial
noncomputable def h_X16_is (x0 x1 x2 : Int) (μ : cM) : Option cO :=
  (zgf μ.2 1600 x0).bind fun v1 =>
  if (zand (zshr x1 v1) 1) ≠ 1 then
    h_X16_is_17 0 μ
  else
    h_X16_is_17 1 μ
theorem eh_X16_is {B : Nat} {τ : zM} {x0 x1 x2 : Int} {μ : cM} (h : cOK B τ μ.2) : hR (hf B) (hp B τ) (f_X16_is x0 x1 x2 (cw B μ)) (h_X16_is x0 x1 x2 μ) := by
  unfold f_X16_is h_X16_is
  refine he_gd 1600 rfl (fun v1 => ?_)
  refine hx_if ?_ ?_
  · exact (eh_X16_is_17 h)
  · exact (eh_X16_is_17 h)
noncomputable def h_X18_is_17 (t0 : Int) (μ : cM) : Option cO :=
  zgd (z01 t0) <|
  some (0, zi t0, μ)
theorem eh_X18_is_17 {B : Nat} {τ : zM} {t0 : Int} {μ : cM} (h : cOK B τ μ.2) : hR (hf B) (hp B τ) (f_X18_is_17 t0 (cw B μ)) (h_X18_is_17 t0 μ) := by
  unfold f_X18_is_17 h_X18_is_17
  refine hx_gd ?_
  first | exact hx_some rfl h | exact hx_some rfl trivial
noncomputable def h_X18_is (x0 x1 x2 : Int) (μ : cM) : Option cO :=
  (zgf μ.2 1801 x0).bind fun v1 =>
  if (zand (zshr x2 v1) 1) ≠ 1 then
    h_X18_is_17 0 μ
  else
    h_X18_is_17 1 μ
theorem eh_X18_is {B : Nat} {τ : zM} {x0 x1 x2 : Int} {μ : cM} (h : cOK B τ μ.2) : hR (hf B) (hp B τ) (f_X18_is x0 x1 x2 (cw B μ)) (h_X18_is x0 x1 x2 μ) := by
  unfold f_X18_is h_X18_is
  refine he_gd 1801 rfl (fun v1 => ?_)
  refine hx_if ?_ ?_
  · exact (eh_X18_is_17 h)
  · exact (eh_X18_is_17 h)
def HRC_G_X17_is (B : Nat) (τ : zM) (rc : Nat → List Int → zM → Option zO) (rc' : Nat → List Int → cM → Option cO) : Prop :=
  (∀ {x0 x1 x2 : Int} {μ : cM}, cOK B τ μ.2 → hR (hf B) (hp B τ) (rc 0 [x0, x1, x2] (cw B μ)) (rc' 0 [x0, x1, x2] μ)) ∧
  (∀ {x0 x1 x2 : Int} {μ : cM}, cOK B τ μ.2 → hR (hf B) (hp B τ) (rc 1 [x0, x1, x2] (cw B μ)) (rc' 1 [x0, x1, x2] μ)) ∧ True
noncomputable def h_X17_is_19 (rc' : Nat → List Int → cM → Option cO) (t0 : Int) (μ : cM) : Option cO :=
  zgd (z01 t0) <|
  some (0, zi t0, μ)
theorem eh_X17_is_19 {B : Nat} {τ : zM} {rc : Nat → List Int → zM → Option zO} {rc' : Nat → List Int → cM → Option cO} (hrc : HRC_G_X17_is B τ rc rc') {t0 : Int} {μ : cM} (h : cOK B τ μ.2) : hR (hf B) (hp B τ) (f_X17_is_19 rc t0 (cw B μ)) (h_X17_is_19 rc' t0 μ) := by
  unfold f_X17_is_19 h_X17_is_19
  refine hx_gd ?_
  first | exact hx_some rfl h | exact hx_some rfl trivial
noncomputable def h_X17_is (rc' : Nat → List Int → cM → Option cO) (x0 x1 x2 : Int) (μ : cM) : Option cO :=
  (zgf μ.2 1700 x0).bind fun v1 =>
  hci ((if zis μ.2 17 v1 = true then h_X16_is v1 x1 x2 μ else (if zis μ.2 18 v1 = true then rc' 0 [v1, x1, x2] μ else (if zis μ.2 20 v1 = true then rc' 1 [v1, x1, x2] μ else (if zis μ.2 19 v1 = true then h_X18_is v1 x1 x2 μ else none))))) fun v2 μ3 =>
  if v2 ≠ 0 then
    h_X17_is_19 rc' 0 μ3
  else
    h_X17_is_19 rc' 1 μ3
theorem eh_X17_is {B : Nat} {τ : zM} {rc : Nat → List Int → zM → Option zO} {rc' : Nat → List Int → cM → Option cO} (hrc : HRC_G_X17_is B τ rc rc') {x0 x1 x2 : Int} {μ : cM} (h : cOK B τ μ.2) : hR (hf B) (hp B τ) (f_X17_is rc x0 x1 x2 (cw B μ)) (h_X17_is rc' x0 x1 x2 μ) := by
  unfold f_X17_is h_X17_is
  refine he_gd 1700 rfl (fun v1 => ?_)
  refine hx_ci (hx_if (eh_X16_is h) (hx_if (hrc.1 h) (hx_if (hrc.2.1 h) (hx_if (eh_X18_is h) (hR_none _ _))))) (fun v2 μ3 h => ?_)
  refine hx_if ?_ ?_
  · exact (eh_X17_is_19 hrc h)
  · exact (eh_X17_is_19 hrc h)
noncomputable def h_X19_is_91 (rc' : Nat → List Int → cM → Option cO) (t0 : Int) (μ : cM) : Option cO :=
  zgd (z01 t0) <|
  some (0, zi t0, μ)
theorem eh_X19_is_91 {B : Nat} {τ : zM} {rc : Nat → List Int → zM → Option zO} {rc' : Nat → List Int → cM → Option cO} (hrc : HRC_G_X17_is B τ rc rc') {t0 : Int} {μ : cM} (h : cOK B τ μ.2) : hR (hf B) (hp B τ) (f_X19_is_91 rc t0 (cw B μ)) (h_X19_is_91 rc' t0 μ) := by
  unfold f_X19_is_91 h_X19_is_91
  refine hx_gd ?_
  first | exact hx_some rfl h | exact hx_some rfl trivial
noncomputable def h_X19_is_86 (rc' : Nat → List Int → cM → Option cO) (μ : cM) : Option cO :=
  h_X19_is_91 rc' 1 μ
theorem eh_X19_is_86 {B : Nat} {τ : zM} {rc : Nat → List Int → zM → Option zO} {rc' : Nat → List Int → cM → Option cO} (hrc : HRC_G_X17_is B τ rc rc') {μ : cM} (h : cOK B τ μ.2) : hR (hf B) (hp B τ) (f_X19_is_86 rc  (cw B μ)) (h_X19_is_86 rc'  μ) := by
  unfold f_X19_is_86 h_X19_is_86
  exact (eh_X19_is_91 hrc h)
noncomputable def h_X19_is_69 (rc' : Nat → List Int → cM → Option cO) (μ : cM) : Option cO :=
  h_X19_is_91 rc' 1 μ
theorem eh_X19_is_69 {B : Nat} {τ : zM} {rc : Nat → List Int → zM → Option zO} {rc' : Nat → List Int → cM → Option cO} (hrc : HRC_G_X17_is B τ rc rc') {μ : cM} (h : cOK B τ μ.2) : hR (hf B) (hp B τ) (f_X19_is_69 rc  (cw B μ)) (h_X19_is_69 rc'  μ) := by
  unfold f_X19_is_69 h_X19_is_69
  exact (eh_X19_is_91 hrc h)
noncomputable def h_X19_is_47 (rc' : Nat → List Int → cM → Option cO) (μ : cM) : Option cO :=
  h_X19_is_91 rc' 0 μ
theorem eh_X19_is_47 {B : Nat} {τ : zM} {rc : Nat → List Int → zM → Option zO} {rc' : Nat → List Int → cM → Option cO} (hrc : HRC_G_X17_is B τ rc rc') {μ : cM} (h : cOK B τ μ.2) : hR (hf B) (hp B τ) (f_X19_is_47 rc  (cw B μ)) (h_X19_is_47 rc'  μ) := by
  unfold f_X19_is_47 h_X19_is_47
  exact (eh_X19_is_91 hrc h)
noncomputable def h_X19_is (rc' : Nat → List Int → cM → Option cO) (x0 x1 x2 : Int) (μ : cM) : Option cO :=
  (zgf μ.2 1901 x0).bind fun v1 =>
  hci ((if zis μ.2 17 v1 = true then h_X16_is v1 x1 x2 μ else (if zis μ.2 18 v1 = true then rc' 0 [v1, x1, x2] μ else (if zis μ.2 20 v1 = true then rc' 1 [v1, x1, x2] μ else (if zis μ.2 19 v1 = true then h_X18_is v1 x1 x2 μ else none))))) fun v2 μ3 =>
  (zgf μ3.2 1902 x0).bind fun v4 =>
  hci ((if zis μ3.2 17 v4 = true then h_X16_is v4 x1 x2 μ3 else (if zis μ3.2 18 v4 = true then rc' 0 [v4, x1, x2] μ3 else (if zis μ3.2 20 v4 = true then rc' 1 [v4, x1, x2] μ3 else (if zis μ3.2 19 v4 = true then h_X18_is v4 x1 x2 μ3 else none))))) fun v5 μ6 =>
  (zgf μ6.2 1900 x0).bind fun v7 =>
  if v7 ≠ 38 then
    (zgf μ6.2 1900 x0).bind fun v8 =>
    if v8 ≠ 124 then
      if v2 = 0 then
        h_X19_is_86 rc' μ6
      else
        if v5 = 0 then
          h_X19_is_91 rc' 0 μ6
        else
          h_X19_is_86 rc' μ6
    else
      if v2 ≠ 0 then
        h_X19_is_69 rc' μ6
      else
        if v5 = 0 then
          h_X19_is_91 rc' 0 μ6
        else
          h_X19_is_69 rc' μ6
  else
    if v2 = 0 then
      h_X19_is_47 rc' μ6
    else
      if v5 = 0 then
        h_X19_is_47 rc' μ6
      else
        h_X19_is_91 rc' 1 μ6
theorem eh_X19_is {B : Nat} {τ : zM} {rc : Nat → List Int → zM → Option zO} {rc' : Nat → List Int → cM → Option cO} (hrc : HRC_G_X17_is B τ rc rc') {x0 x1 x2 : Int} {μ : cM} (h : cOK B τ μ.2) : hR (hf B) (hp B τ) (f_X19_is rc x0 x1 x2 (cw B μ)) (h_X19_is rc' x0 x1 x2 μ) := by
  unfold f_X19_is h_X19_is
  refine he_gd 1901 rfl (fun v1 => ?_)
  refine hx_ci (hx_if (eh_X16_is h) (hx_if (hrc.1 h) (hx_if (hrc.2.1 h) (hx_if (eh_X18_is h) (hR_none _ _))))) (fun v2 μ3 h => ?_)
  refine he_gd 1902 rfl (fun v4 => ?_)
  refine hx_ci (hx_if (eh_X16_is h) (hx_if (hrc.1 h) (hx_if (hrc.2.1 h) (hx_if (eh_X18_is h) (hR_none _ _))))) (fun v5 μ6 h => ?_)
  refine he_gd 1900 rfl (fun v7 => ?_)
  refine hx_if ?_ ?_
  · refine he_gd 1900 rfl (fun v8 => ?_)
    refine hx_if ?_ ?_
    · refine hx_if ?_ ?_
      · exact (eh_X19_is_86 hrc h)
      · refine hx_if ?_ ?_
        · exact (eh_X19_is_91 hrc h)
        · exact (eh_X19_is_86 hrc h)
    · refine hx_if ?_ ?_
      · exact (eh_X19_is_69 hrc h)
      · refine hx_if ?_ ?_
        · exact (eh_X19_is_91 hrc h)
        · exact (eh_X19_is_69 hrc h)
  · refine hx_if ?_ ?_
    · exact (eh_X19_is_47 hrc h)
    · refine hx_if ?_ ?_
      · exact (eh_X19_is_47 hrc h)
      · exact (eh_X19_is_91 hrc h)
noncomputable def h_G_X17_is : Nat → Nat → List Int → cM → Option cO
  | 0, _, _, _ => none
  | d + 1, tg, as, μ => match tg, as with
    | 0, [x0, x1, x2] => h_X17_is (h_G_X17_is d) x0 x1 x2 μ
    | 1, [x0, x1, x2] => h_X19_is (h_G_X17_is d) x0 x1 x2 μ
    | _, _ => none
theorem eh_G_X17_is (B : Nat) (τ : zM) : ∀ d : Nat, HRC_G_X17_is B τ (f_G_X17_is d) (h_G_X17_is d)
  | 0 => ⟨(fun _ => hR_none _ _), (fun _ => hR_none _ _), trivial⟩
  | d + 1 => ⟨(fun h => eh_X17_is (eh_G_X17_is B τ d) h), (fun h => eh_X19_is (eh_G_X17_is B τ d) h), trivial⟩
noncomputable def h_X18_by_118 (t0 : Int) (μ : cM) : Option cO :=
  zgd (z01 t0) <|
  some (0, zi t0, μ)
theorem eh_X18_by_118 {B : Nat} {τ : zM} {t0 : Int} {μ : cM} (h : cOK B τ μ.2) : hR (hf B) (hp B τ) (f_X18_by_118 t0 (cw B μ)) (h_X18_by_118 t0 μ) := by
  unfold f_X18_by_118 h_X18_by_118
  refine hx_gd ?_
  first | exact hx_some rfl h | exact hx_some rfl trivial
noncomputable def h_X18_by_117 (μ : cM) : Option cO :=
  h_X18_by_118 0 μ
theorem eh_X18_by_117 {B : Nat} {τ : zM} {μ : cM} (h : cOK B τ μ.2) : hR (hf B) (hp B τ) (f_X18_by_117  (cw B μ)) (h_X18_by_117  μ) := by
  unfold f_X18_by_117 h_X18_by_117
  exact (eh_X18_by_118 h)
noncomputable def h_X18_by_103 (t0 : Int) (μ : cM) : Option cO :=
  zgd (z01 t0) <|
  some (0, zi t0, μ)
theorem eh_X18_by_103 {B : Nat} {τ : zM} {t0 : Int} {μ : cM} (h : cOK B τ μ.2) : hR (hf B) (hp B τ) (f_X18_by_103 t0 (cw B μ)) (h_X18_by_103 t0 μ) := by
  unfold f_X18_by_103 h_X18_by_103
  refine hx_gd ?_
  first | exact hx_some rfl h | exact hx_some rfl trivial
noncomputable def h_X18_by_102 (μ : cM) : Option cO :=
  h_X18_by_103 0 μ
theorem eh_X18_by_102 {B : Nat} {τ : zM} {μ : cM} (h : cOK B τ μ.2) : hR (hf B) (hp B τ) (f_X18_by_102  (cw B μ)) (h_X18_by_102  μ) := by
  unfold f_X18_by_102 h_X18_by_102
  exact (eh_X18_by_103 h)
noncomputable def h_X18_by_98 (μ : cM) : Option cO :=
  h_X18_by_103 1 μ
theorem eh_X18_by_98 {B : Nat} {τ : zM} {μ : cM} (h : cOK B τ μ.2) : hR (hf B) (hp B τ) (f_X18_by_98  (cw B μ)) (h_X18_by_98  μ) := by
  unfold f_X18_by_98 h_X18_by_98
  exact (eh_X18_by_103 h)
noncomputable def h_X18_by_83 (t0 : Int) (μ : cM) : Option cO :=
  zgd (z01 t0) <|
  some (0, zi t0, μ)
theorem eh_X18_by_83 {B : Nat} {τ : zM} {t0 : Int} {μ : cM} (h : cOK B τ μ.2) : hR (hf B) (hp B τ) (f_X18_by_83 t0 (cw B μ)) (h_X18_by_83 t0 μ) := by
  unfold f_X18_by_83 h_X18_by_83
  refine hx_gd ?_
  first | exact hx_some rfl h | exact hx_some rfl trivial
noncomputable def h_X18_by_78 (μ : cM) : Option cO :=
  h_X18_by_83 1 μ
theorem eh_X18_by_78 {B : Nat} {τ : zM} {μ : cM} (h : cOK B τ μ.2) : hR (hf B) (hp B τ) (f_X18_by_78  (cw B μ)) (h_X18_by_78  μ) := by
  unfold f_X18_by_78 h_X18_by_78
  exact (eh_X18_by_83 h)
noncomputable def h_X18_by_82 (μ : cM) : Option cO :=
  h_X18_by_83 0 μ
theorem eh_X18_by_82 {B : Nat} {τ : zM} {μ : cM} (h : cOK B τ μ.2) : hR (hf B) (hp B τ) (f_X18_by_82  (cw B μ)) (h_X18_by_82  μ) := by
  unfold f_X18_by_82 h_X18_by_82
  exact (eh_X18_by_83 h)
noncomputable def h_X18_by_133 (t0 : Int) (μ : cM) : Option cO :=
  zgd (z01 t0) <|
  some (0, zi t0, μ)
theorem eh_X18_by_133 {B : Nat} {τ : zM} {t0 : Int} {μ : cM} (h : cOK B τ μ.2) : hR (hf B) (hp B τ) (f_X18_by_133 t0 (cw B μ)) (h_X18_by_133 t0 μ) := by
  unfold f_X18_by_133 h_X18_by_133
  refine hx_gd ?_
  first | exact hx_some rfl h | exact hx_some rfl trivial
noncomputable def h_X18_by_128 (μ : cM) : Option cO :=
  h_X18_by_133 1 μ
theorem eh_X18_by_128 {B : Nat} {τ : zM} {μ : cM} (h : cOK B τ μ.2) : hR (hf B) (hp B τ) (f_X18_by_128  (cw B μ)) (h_X18_by_128  μ) := by
  unfold f_X18_by_128 h_X18_by_128
  exact (eh_X18_by_133 h)
noncomputable def h_X18_by (x0 x1 x2 x3 : Int) (μ : cM) : Option cO :=
  (zgf μ.2 1802 x0).bind fun v1 =>
  hci ((if zis μ.2 17 v1 = true then h_X16_is v1 x1 x2 μ else (if zis μ.2 18 v1 = true then h_G_X17_is 40 0 [v1, x1, x2] μ else (if zis μ.2 20 v1 = true then h_G_X17_is 40 1 [v1, x1, x2] μ else (if zis μ.2 19 v1 = true then h_X18_is v1 x1 x2 μ else none))))) fun v2 μ3 =>
  (zgf μ3.2 1803 x0).bind fun v4 =>
  hci ((if zis μ3.2 17 v4 = true then h_X16_is v4 x1 x2 μ3 else (if zis μ3.2 18 v4 = true then h_G_X17_is 40 0 [v4, x1, x2] μ3 else (if zis μ3.2 20 v4 = true then h_G_X17_is 40 1 [v4, x1, x2] μ3 else (if zis μ3.2 19 v4 = true then h_X18_is v4 x1 x2 μ3 else none))))) fun v5 μ6 =>
  (zgf μ6.2 1800 x0).bind fun v7 =>
  if v7 = 71 then
    if v5 = 0 then
      h_X18_by_117 μ6
    else
      if x3 = 0 then
        h_X18_by_117 μ6
      else
        h_X18_by_118 1 μ6
  else
    if v7 = 82 then
      if v5 = 0 then
        h_X18_by_102 μ6
      else
        if v2 ≠ 0 then
          h_X18_by_98 μ6
        else
          if x3 = 0 then
            h_X18_by_102 μ6
          else
            h_X18_by_98 μ6
    else
      if v7 = 85 then
        if v5 ≠ 0 then
          h_X18_by_78 μ6
        else
          if v2 = 0 then
            h_X18_by_82 μ6
          else
            if x3 = 0 then
              h_X18_by_82 μ6
            else
              h_X18_by_78 μ6
      else
        if v5 ≠ 0 then
          h_X18_by_128 μ6
        else
          if x3 = 0 then
            h_X18_by_133 0 μ6
          else
            h_X18_by_128 μ6
theorem eh_X18_by {B : Nat} {τ : zM} {x0 x1 x2 x3 : Int} {μ : cM} (h : cOK B τ μ.2) : hR (hf B) (hp B τ) (f_X18_by x0 x1 x2 x3 (cw B μ)) (h_X18_by x0 x1 x2 x3 μ) := by
  unfold f_X18_by h_X18_by
  refine he_gd 1802 rfl (fun v1 => ?_)
  refine hx_ci (hx_if (eh_X16_is h) (hx_if ((eh_G_X17_is B τ 40).1 h) (hx_if ((eh_G_X17_is B τ 40).2.1 h) (hx_if (eh_X18_is h) (hR_none _ _))))) (fun v2 μ3 h => ?_)
  refine he_gd 1803 rfl (fun v4 => ?_)
  refine hx_ci (hx_if (eh_X16_is h) (hx_if ((eh_G_X17_is B τ 40).1 h) (hx_if ((eh_G_X17_is B τ 40).2.1 h) (hx_if (eh_X18_is h) (hR_none _ _))))) (fun v5 μ6 h => ?_)
  refine he_gd 1800 rfl (fun v7 => ?_)
  refine hx_if ?_ ?_
  · refine hx_if ?_ ?_
    · exact (eh_X18_by_117 h)
    · refine hx_if ?_ ?_
      · exact (eh_X18_by_117 h)
      · exact (eh_X18_by_118 h)
  · refine hx_if ?_ ?_
    · refine hx_if ?_ ?_
      · exact (eh_X18_by_102 h)
      · refine hx_if ?_ ?_
        · exact (eh_X18_by_98 h)
        · refine hx_if ?_ ?_
          · exact (eh_X18_by_102 h)
          · exact (eh_X18_by_98 h)
    · refine hx_if ?_ ?_
      · refine hx_if ?_ ?_
        · exact (eh_X18_by_78 h)
        · refine hx_if ?_ ?_
          · exact (eh_X18_by_82 h)
          · refine hx_if ?_ ?_
            · exact (eh_X18_by_82 h)
            · exact (eh_X18_by_78 h)
      · refine hx_if ?_ ?_
        · exact (eh_X18_by_128 h)
        · refine hx_if ?_ ?_
          · exact (eh_X18_by_133 h)
          · exact (eh_X18_by_128 h)
noncomputable def h_X7_back_57 (x3 : Int) (μ : cM) : Option cO :=
  some (0, zi x3, μ)
theorem eh_X7_back_57 {B : Nat} {τ : zM} {x3 : Int} {μ : cM} (h : cOK B τ μ.2) : hR (hf B) (hp B τ) (f_X7_back_57 x3 (cw B μ)) (h_X7_back_57 x3 μ) := by
  unfold f_X7_back_57 h_X7_back_57
  first | exact hx_some rfl h | exact hx_some rfl trivial
noncomputable def h_X7_back_51 (x1 x2 x3 x4 : Int) (μ : cM) : Option ((Int × Int × cM) ⊕ cO) :=
  zlet (zadd x4 1) fun y1 =>
  some (.inl (x3, y1, μ))
theorem eh_X7_back_51 {B : Nat} {τ : zM} {x1 x2 x3 x4 : Int} {μ : cM} (h : cOK B τ μ.2) : hR (Sum.map (fun s => (s.1, s.2.1, cw B s.2.2)) (hf B)) (Sum.elim (fun s : Int × Int × cM => cOK B τ s.2.2.2) (hp B τ)) (f_X7_back_51 (cad B 5 1) x1 x2 x3 x4 (cw B μ)) (h_X7_back_51 x1 x2 x3 x4 μ) := by
  unfold f_X7_back_51 h_X7_back_51
  refine hx_let (fun y1 => ?_)
  first | exact hx_some rfl h | exact hx_some rfl trivial
noncomputable def h_X7_back_38 (x1 x2 x3 x4 t0 t1 t2 t3 : Int) (μ : cM) : Option ((Int × Int × cM) ⊕ cO) :=
  zgd (zis μ.2 19 t3) <|
  hci (h_X18_by t3 t2 t1 t0 μ) fun v1 μ2 =>
  if v1 = 0 then
    h_X7_back_51 x1 x2 x3 x4 μ2
  else
    zlet ((zor x3 (zshl 1 x4))) fun y3 =>
    h_X7_back_51 x1 x2 y3 x4 μ2
theorem eh_X7_back_38 {B : Nat} {τ : zM} {x1 x2 x3 x4 t0 t1 t2 t3 : Int} {μ : cM} (h : cOK B τ μ.2) : hR (Sum.map (fun s => (s.1, s.2.1, cw B s.2.2)) (hf B)) (Sum.elim (fun s : Int × Int × cM => cOK B τ s.2.2.2) (hp B τ)) (f_X7_back_38 (cad B 5 1) x1 x2 x3 x4 t0 t1 t2 t3 (cw B μ)) (h_X7_back_38 x1 x2 x3 x4 t0 t1 t2 t3 μ) := by
  unfold f_X7_back_38 h_X7_back_38
  refine hx_gd ?_
  refine hx_ci (eh_X18_by h) (fun v1 μ2 h => ?_)
  refine hx_if ?_ ?_
  · exact (eh_X7_back_51 h)
  · refine hx_let (fun y3 => ?_)
    exact (eh_X7_back_51 h)
noncomputable def h_X7_back_5_b (x1 x2 x3 x4 : Int) (μ : cM) : Option ((Int × Int × cM) ⊕ cO) :=
  zlet (hG μ 707 1) fun v1 =>
  if v1 ≤ x4 then
    (h_X7_back_57 x3 μ).map (fun r => (.inr r))
  else
    (hga μ 705 1 x4).bind fun v3 =>
    if (zand (zshr x2 x4) 1) ≠ 1 then
      h_X7_back_38 x1 x2 x3 x4 0 x3 x1 v3 μ
    else
      h_X7_back_38 x1 x2 x3 x4 1 x3 x1 v3 μ
theorem eh_X7_back_5_b {B : Nat} {τ : zM} {x1 x2 x3 x4 : Int} {μ : cM} (h : cOK B τ μ.2) : hR (Sum.map (fun s => (s.1, s.2.1, cw B s.2.2)) (hf B)) (Sum.elim (fun s : Int × Int × cM => cOK B τ s.2.2.2) (hp B τ)) (f_X7_back_5_b (cad B 5 1) x1 x2 x3 x4 (cw B μ)) (h_X7_back_5_b x1 x2 x3 x4 μ) := by
  unfold f_X7_back_5_b h_X7_back_5_b
  refine he_gs h (f := 707) (c := 5) (o := 1) ⟨rfl, by decide, by decide⟩ rfl (fun v1 => ?_)
  refine hx_if ?_ ?_
  · exact hx_map (eh_X7_back_57 h) (fun r => rfl) (fun r q => q)
  · refine he_gA h (f := 705) (c := 5) (o := 1) ⟨rfl, by decide⟩ rfl ?_
    refine he_ga h (f := 705) (o := 1) ⟨⟨rfl, by decide, by decide⟩, rfl⟩ (fun v3 => ?_)
    refine hx_if ?_ ?_
    · exact (eh_X7_back_38 h)
    · exact (eh_X7_back_38 h)
noncomputable def h_X7_back_5 (x1 x2 x3 x4 : Int) (μ : cM) : Option cO :=
  zloop (fun s : Int × Int × cM => h_X7_back_5_b x1 x2 s.1 s.2.1 s.2.2) (x3, x4, μ)
theorem eh_X7_back_5 {B : Nat} {τ : zM} {x1 x2 x3 x4 : Int} {μ : cM} (h : cOK B τ μ.2) : hR (hf B) (hp B τ) (f_X7_back_5 (cad B 5 1) x1 x2 x3 x4 (cw B μ)) (h_X7_back_5 x1 x2 x3 x4 μ) := by
  unfold f_X7_back_5 h_X7_back_5
  refine hx_loop (φ := (fun s => (s.1, s.2.1, cw B s.2.2))) (Ps := (fun s : Int × Int × cM => cOK B τ s.2.2.2)) (s := (x3, x4, μ)) h (fun s hs => ?_)
  exact eh_X7_back_5_b hs
noncomputable def h_X7_back (x1 x2 : Int) (μ : cM) : Option cO :=
  h_X7_back_5 x1 x2 0 0 μ
theorem eh_X7_back {B : Nat} {τ : zM} {x1 x2 : Int} {μ : cM} (h : cOK B τ μ.2) : hR (hf B) (hp B τ) (f_X7_back (cad B 5 1) x1 x2 (cw B μ)) (h_X7_back x1 x2 μ) := by
  unfold f_X7_back h_X7_back
  exact (eh_X7_back_5 h)
noncomputable def h_X18_rests_25 (t0 : Int) (μ : cM) : Option cO :=
  zgd (z01 t0) <|
  some (0, zi t0, μ)
theorem eh_X18_rests_25 {B : Nat} {τ : zM} {t0 : Int} {μ : cM} (h : cOK B τ μ.2) : hR (hf B) (hp B τ) (f_X18_rests_25 t0 (cw B μ)) (h_X18_rests_25 t0 μ) := by
  unfold f_X18_rests_25 h_X18_rests_25
  refine hx_gd ?_
  first | exact hx_some rfl h | exact hx_some rfl trivial
noncomputable def h_X18_rests (x0 x1 x2 : Int) (μ : cM) : Option cO :=
  (zgf μ.2 1803 x0).bind fun v1 =>
  hci ((if zis μ.2 17 v1 = true then h_X16_is v1 x1 x2 μ else (if zis μ.2 18 v1 = true then h_G_X17_is 40 0 [v1, x1, x2] μ else (if zis μ.2 20 v1 = true then h_G_X17_is 40 1 [v1, x1, x2] μ else (if zis μ.2 19 v1 = true then h_X18_is v1 x1 x2 μ else none))))) fun v2 μ3 =>
  zgd (zis μ3.2 19 x0) <|
  hci (h_X18_is x0 x1 x2 μ3) fun v4 μ5 =>
  if v2 ≠ v4 then
    h_X18_rests_25 0 μ5
  else
    h_X18_rests_25 1 μ5
theorem eh_X18_rests {B : Nat} {τ : zM} {x0 x1 x2 : Int} {μ : cM} (h : cOK B τ μ.2) : hR (hf B) (hp B τ) (f_X18_rests x0 x1 x2 (cw B μ)) (h_X18_rests x0 x1 x2 μ) := by
  unfold f_X18_rests h_X18_rests
  refine he_gd 1803 rfl (fun v1 => ?_)
  refine hx_ci (hx_if (eh_X16_is h) (hx_if ((eh_G_X17_is B τ 40).1 h) (hx_if ((eh_G_X17_is B τ 40).2.1 h) (hx_if (eh_X18_is h) (hR_none _ _))))) (fun v2 μ3 h => ?_)
  refine hx_gd ?_
  refine hx_ci (eh_X18_is h) (fun v4 μ5 h => ?_)
  refine hx_if ?_ ?_
  · exact (eh_X18_rests_25 h)
  · exact (eh_X18_rests_25 h)
noncomputable def h_X7_resting_42 (x3 : Int) (μ : cM) : Option cO :=
  some (0, zi x3, μ)
theorem eh_X7_resting_42 {B : Nat} {τ : zM} {x3 : Int} {μ : cM} (h : cOK B τ μ.2) : hR (hf B) (hp B τ) (f_X7_resting_42 x3 (cw B μ)) (h_X7_resting_42 x3 μ) := by
  unfold f_X7_resting_42 h_X7_resting_42
  first | exact hx_some rfl h | exact hx_some rfl trivial
noncomputable def h_X7_resting_36 (x1 x2 x3 x4 : Int) (μ : cM) : Option ((Int × Int × cM) ⊕ cO) :=
  zlet (zadd x4 1) fun y1 =>
  some (.inl (x3, y1, μ))
theorem eh_X7_resting_36 {B : Nat} {τ : zM} {x1 x2 x3 x4 : Int} {μ : cM} (h : cOK B τ μ.2) : hR (Sum.map (fun s => (s.1, s.2.1, cw B s.2.2)) (hf B)) (Sum.elim (fun s : Int × Int × cM => cOK B τ s.2.2.2) (hp B τ)) (f_X7_resting_36 (cad B 5 1) x1 x2 x3 x4 (cw B μ)) (h_X7_resting_36 x1 x2 x3 x4 μ) := by
  unfold f_X7_resting_36 h_X7_resting_36
  refine hx_let (fun y1 => ?_)
  first | exact hx_some rfl h | exact hx_some rfl trivial
noncomputable def h_X7_resting_5_b (x1 x2 x3 x4 : Int) (μ : cM) : Option ((Int × Int × cM) ⊕ cO) :=
  zlet (hG μ 707 1) fun v1 =>
  if v1 ≤ x4 then
    (h_X7_resting_42 x3 μ).map (fun r => (.inr r))
  else
    (hga μ 705 1 x4).bind fun v3 =>
    zgd (zis μ.2 19 v3) <|
    hci (h_X18_rests v3 x1 x2 μ) fun v4 μ5 =>
    if v4 = 0 then
      h_X7_resting_36 x1 x2 x3 x4 μ5
    else
      zlet ((zor x3 (zshl 1 x4))) fun y6 =>
      h_X7_resting_36 x1 x2 y6 x4 μ5
theorem eh_X7_resting_5_b {B : Nat} {τ : zM} {x1 x2 x3 x4 : Int} {μ : cM} (h : cOK B τ μ.2) : hR (Sum.map (fun s => (s.1, s.2.1, cw B s.2.2)) (hf B)) (Sum.elim (fun s : Int × Int × cM => cOK B τ s.2.2.2) (hp B τ)) (f_X7_resting_5_b (cad B 5 1) x1 x2 x3 x4 (cw B μ)) (h_X7_resting_5_b x1 x2 x3 x4 μ) := by
  unfold f_X7_resting_5_b h_X7_resting_5_b
  refine he_gs h (f := 707) (c := 5) (o := 1) ⟨rfl, by decide, by decide⟩ rfl (fun v1 => ?_)
  refine hx_if ?_ ?_
  · exact hx_map (eh_X7_resting_42 h) (fun r => rfl) (fun r q => q)
  · refine he_gA h (f := 705) (c := 5) (o := 1) ⟨rfl, by decide⟩ rfl ?_
    refine he_ga h (f := 705) (o := 1) ⟨⟨rfl, by decide, by decide⟩, rfl⟩ (fun v3 => ?_)
    refine hx_gd ?_
    refine hx_ci (eh_X18_rests h) (fun v4 μ5 h => ?_)
    refine hx_if ?_ ?_
    · exact (eh_X7_resting_36 h)
    · refine hx_let (fun y6 => ?_)
      exact (eh_X7_resting_36 h)
noncomputable def h_X7_resting_5 (x1 x2 x3 x4 : Int) (μ : cM) : Option cO :=
  zloop (fun s : Int × Int × cM => h_X7_resting_5_b x1 x2 s.1 s.2.1 s.2.2) (x3, x4, μ)
theorem eh_X7_resting_5 {B : Nat} {τ : zM} {x1 x2 x3 x4 : Int} {μ : cM} (h : cOK B τ μ.2) : hR (hf B) (hp B τ) (f_X7_resting_5 (cad B 5 1) x1 x2 x3 x4 (cw B μ)) (h_X7_resting_5 x1 x2 x3 x4 μ) := by
  unfold f_X7_resting_5 h_X7_resting_5
  refine hx_loop (φ := (fun s => (s.1, s.2.1, cw B s.2.2))) (Ps := (fun s : Int × Int × cM => cOK B τ s.2.2.2)) (s := (x3, x4, μ)) h (fun s hs => ?_)
  exact eh_X7_resting_5_b hs
noncomputable def h_X7_resting (x1 x2 : Int) (μ : cM) : Option cO :=
  h_X7_resting_5 x1 x2 0 0 μ
theorem eh_X7_resting {B : Nat} {τ : zM} {x1 x2 : Int} {μ : cM} (h : cOK B τ μ.2) : hR (hf B) (hp B τ) (f_X7_resting (cad B 5 1) x1 x2 (cw B μ)) (h_X7_resting x1 x2 μ) := by
  unfold f_X7_resting h_X7_resting
  exact (eh_X7_resting_5 h)
noncomputable def h_X8_prepare_184 (μ : cM) : Option cO :=
  some (0, ((3, 0) : zV), μ)
theorem eh_X8_prepare_184 {B : Nat} {τ : zM} {μ : cM} (h : cOK B τ μ.2) : hR (hf B) (hp B τ) (f_X8_prepare_184  (cw B μ)) (h_X8_prepare_184  μ) := by
  unfold f_X8_prepare_184 h_X8_prepare_184
  first | exact hx_some rfl h | exact hx_some rfl trivial
noncomputable def h_X8_prepare_137_b (x1 : Int) (μ : cM) : Option ((Int × cM) ⊕ cO) :=
  if x1 < 0 then
    (h_X8_prepare_184 μ).map (fun r => (.inr r))
  else
    (hga μ 217 0 x1).bind fun v5 =>
    (hga μ 805 0 v5).bind fun v6 =>
    (hpa μ 806 0 x1 v6).bind fun μ7 =>
    (hga μ7 217 0 x1).bind fun v11 =>
    (hpa μ7 805 0 v11 (zadd 1 x1)).bind fun μ12 =>
    zlet (zadd x1 (-1)) fun y13 =>
    some (.inl (y13, μ12))
theorem eh_X8_prepare_137_b {B : Nat} {τ : zM} {x1 : Int} {μ : cM} (h : cOK B τ μ.2) : hR (Sum.map (fun s => (s.1, cw B s.2)) (hf B)) (Sum.elim (fun s : Int × cM => cOK B τ s.2.2) (hp B τ)) (f_X8_prepare_137_b (cad B 8 0) x1 (cw B μ)) (h_X8_prepare_137_b x1 μ) := by
  unfold f_X8_prepare_137_b h_X8_prepare_137_b
  refine hx_if ?_ ?_
  · exact hx_map (eh_X8_prepare_184 h) (fun r => rfl) (fun r q => q)
  · refine he_gA h (f := 806) (c := 8) (o := 0) ⟨rfl, by decide⟩ rfl ?_
    refine he_gA h (f := 805) (c := 8) (o := 0) ⟨rfl, by decide⟩ rfl ?_
    refine he_gr h (f := 800) (c := 8) (o := 0) ⟨by decide, by decide⟩ rfl ?_
    refine he_gA h (f := 217) (c := 2) (o := 0) ⟨rfl, by decide⟩ rfl ?_
    refine he_ga h (f := 217) (o := 0) ⟨⟨rfl, by decide, by decide⟩, rfl⟩ (fun v5 => ?_)
    refine he_ga h (f := 805) (o := 0) ⟨⟨rfl, by decide, by decide⟩, rfl⟩ (fun v6 => ?_)
    refine he_pa h (f := 806) (o := 0) ⟨⟨rfl, by decide, by decide⟩, rfl⟩ (fun μ7 h => ?_)
    refine he_gA h (f := 805) (c := 8) (o := 0) ⟨rfl, by decide⟩ rfl ?_
    refine he_gr h (f := 800) (c := 8) (o := 0) ⟨by decide, by decide⟩ rfl ?_
    refine he_gA h (f := 217) (c := 2) (o := 0) ⟨rfl, by decide⟩ rfl ?_
    refine he_ga h (f := 217) (o := 0) ⟨⟨rfl, by decide, by decide⟩, rfl⟩ (fun v11 => ?_)
    refine he_pa h (f := 805) (o := 0) ⟨⟨rfl, by decide, by decide⟩, rfl⟩ (fun μ12 h => ?_)
    refine hx_let (fun y13 => ?_)
    first | exact hx_some rfl h | exact hx_some rfl trivial
noncomputable def h_X8_prepare_137 (x1 : Int) (μ : cM) : Option cO :=
  zloop (fun s : Int × cM => h_X8_prepare_137_b s.1 s.2) (x1, μ)
theorem eh_X8_prepare_137 {B : Nat} {τ : zM} {x1 : Int} {μ : cM} (h : cOK B τ μ.2) : hR (hf B) (hp B τ) (f_X8_prepare_137 (cad B 8 0) x1 (cw B μ)) (h_X8_prepare_137 x1 μ) := by
  unfold f_X8_prepare_137 h_X8_prepare_137
  refine hx_loop (φ := (fun s => (s.1, cw B s.2))) (Ps := (fun s : Int × cM => cOK B τ s.2.2)) (s := (x1, μ)) h (fun s hs => ?_)
  exact eh_X8_prepare_137_b hs
noncomputable def h_X8_prepare_127 (μ : cM) : Option cO :=
  zlet (hG μ 221 0) fun v2 =>
  zlet ((zsub v2 1)) fun y3 =>
  h_X8_prepare_137 y3 μ
theorem eh_X8_prepare_127 {B : Nat} {τ : zM} {μ : cM} (h : cOK B τ μ.2) : hR (hf B) (hp B τ) (f_X8_prepare_127 (cad B 8 0) (cw B μ)) (h_X8_prepare_127  μ) := by
  unfold f_X8_prepare_127 h_X8_prepare_127
  refine he_gr h (f := 800) (c := 8) (o := 0) ⟨by decide, by decide⟩ rfl ?_
  refine he_gs h (f := 221) (c := 2) (o := 0) ⟨rfl, by decide, by decide⟩ rfl (fun v2 => ?_)
  refine hx_let (fun y3 => ?_)
  exact (eh_X8_prepare_137 h)
noncomputable def h_X8_prepare_121 (x1 : Int) (μ : cM) : Option ((Int × cM) ⊕ cO) :=
  zlet (zadd x1 1) fun y1 =>
  some (.inl (y1, μ))
theorem eh_X8_prepare_121 {B : Nat} {τ : zM} {x1 : Int} {μ : cM} (h : cOK B τ μ.2) : hR (Sum.map (fun s => (s.1, cw B s.2)) (hf B)) (Sum.elim (fun s : Int × cM => cOK B τ s.2.2) (hp B τ)) (f_X8_prepare_121 (cad B 8 0) x1 (cw B μ)) (h_X8_prepare_121 x1 μ) := by
  unfold f_X8_prepare_121 h_X8_prepare_121
  refine hx_let (fun y1 => ?_)
  first | exact hx_some rfl h | exact hx_some rfl trivial
noncomputable def h_X8_prepare_57_b (x1 x2 : Int) (μ : cM) : Option ((Int × cM) ⊕ ((Int × cM) ⊕ cO)) :=
  hci (h_X8_kinds μ) fun v1 μ2 =>
  if v1 ≤ x2 then
    (h_X8_prepare_121 x1 μ2).map (fun r => (.inr r))
  else
    (hga μ2 802 0 x1).bind fun v6 =>
    hci (h_X7_back v6 x2 μ2) fun v7 μ8 =>
    (hpa μ8 803 0 (zadd (zmul 8 x1) x2) v7).bind fun μ9 =>
    (hga μ9 802 0 x1).bind fun v13 =>
    hci (h_X7_resting v13 x2 μ9) fun v14 μ15 =>
    (hpa μ15 804 0 (zadd (zmul 8 x1) x2) v14).bind fun μ16 =>
    zlet (zadd x2 1) fun y17 =>
    some (.inl (y17, μ16))
theorem eh_X8_prepare_57_b {B : Nat} {τ : zM} {x1 x2 : Int} {μ : cM} (h : cOK B τ μ.2) : hR (Sum.map (fun s => (s.1, cw B s.2)) (Sum.map (fun s => (s.1, cw B s.2)) (hf B))) (Sum.elim (fun s : Int × cM => cOK B τ s.2.2) (Sum.elim (fun s : Int × cM => cOK B τ s.2.2) (hp B τ))) (f_X8_prepare_57_b (cad B 8 0) x1 x2 (cw B μ)) (h_X8_prepare_57_b x1 x2 μ) := by
  unfold f_X8_prepare_57_b h_X8_prepare_57_b
  refine hx_is h ⟨rfl, by decide, by decide⟩ ?_
  refine hx_ci (eh_X8_kinds h) (fun v1 μ2 h => ?_)
  refine hx_if ?_ ?_
  · exact hx_map (eh_X8_prepare_121 h) (fun r => rfl) (fun r q => q)
  · refine he_gA h (f := 803) (c := 8) (o := 0) ⟨rfl, by decide⟩ rfl ?_
    refine he_gr h (f := 801) (c := 8) (o := 0) ⟨by decide, by decide⟩ rfl ?_
    refine he_gA h (f := 802) (c := 8) (o := 0) ⟨rfl, by decide⟩ rfl ?_
    refine he_ga h (f := 802) (o := 0) ⟨⟨rfl, by decide, by decide⟩, rfl⟩ (fun v6 => ?_)
    refine hx_is h ⟨rfl, by decide, by decide⟩ ?_
    refine hx_ci (eh_X7_back h) (fun v7 μ8 h => ?_)
    refine he_pa h (f := 803) (o := 0) ⟨⟨rfl, by decide, by decide⟩, rfl⟩ (fun μ9 h => ?_)
    refine he_gA h (f := 804) (c := 8) (o := 0) ⟨rfl, by decide⟩ rfl ?_
    refine he_gr h (f := 801) (c := 8) (o := 0) ⟨by decide, by decide⟩ rfl ?_
    refine he_gA h (f := 802) (c := 8) (o := 0) ⟨rfl, by decide⟩ rfl ?_
    refine he_ga h (f := 802) (o := 0) ⟨⟨rfl, by decide, by decide⟩, rfl⟩ (fun v13 => ?_)
    refine hx_is h ⟨rfl, by decide, by decide⟩ ?_
    refine hx_ci (eh_X7_resting h) (fun v14 μ15 h => ?_)
    refine he_pa h (f := 804) (o := 0) ⟨⟨rfl, by decide, by decide⟩, rfl⟩ (fun μ16 h => ?_)
    refine hx_let (fun y17 => ?_)
    first | exact hx_some rfl h | exact hx_some rfl trivial
noncomputable def h_X8_prepare_57 (x1 x2 : Int) (μ : cM) : Option ((Int × cM) ⊕ cO) :=
  zloop (fun s : Int × cM => h_X8_prepare_57_b x1 s.1 s.2) (x2, μ)
theorem eh_X8_prepare_57 {B : Nat} {τ : zM} {x1 x2 : Int} {μ : cM} (h : cOK B τ μ.2) : hR (Sum.map (fun s => (s.1, cw B s.2)) (hf B)) (Sum.elim (fun s : Int × cM => cOK B τ s.2.2) (hp B τ)) (f_X8_prepare_57 (cad B 8 0) x1 x2 (cw B μ)) (h_X8_prepare_57 x1 x2 μ) := by
  unfold f_X8_prepare_57 h_X8_prepare_57
  refine hx_loop (φ := (fun s => (s.1, cw B s.2))) (Ps := (fun s : Int × cM => cOK B τ s.2.2)) (s := (x2, μ)) h (fun s hs => ?_)
  exact eh_X8_prepare_57_b hs
noncomputable def h_X8_prepare_2_b (x1 : Int) (μ : cM) : Option ((Int × cM) ⊕ cO) :=
  zlet (hG μ 220 0) fun v2 =>
  if v2 ≤ x1 then
    (h_X8_prepare_127 μ).map (fun r => (.inr r))
  else
    hcv (h_X2_unpack x1 0 μ) fun μ6 =>
    hci (h_X7_props 0 μ6) fun v11 μ12 =>
    (hpa μ12 802 0 x1 v11).bind fun μ13 =>
    (hpa μ13 805 0 x1 0).bind fun μ15 =>
    h_X8_prepare_57 x1 0 μ15
theorem eh_X8_prepare_2_b {B : Nat} {τ : zM} {x1 : Int} {μ : cM} (h : cOK B τ μ.2) : hR (Sum.map (fun s => (s.1, cw B s.2)) (hf B)) (Sum.elim (fun s : Int × cM => cOK B τ s.2.2) (hp B τ)) (f_X8_prepare_2_b (cad B 8 0) x1 (cw B μ)) (h_X8_prepare_2_b x1 μ) := by
  unfold f_X8_prepare_2_b h_X8_prepare_2_b
  refine he_gr h (f := 800) (c := 8) (o := 0) ⟨by decide, by decide⟩ rfl ?_
  refine he_gs h (f := 220) (c := 2) (o := 0) ⟨rfl, by decide, by decide⟩ rfl (fun v2 => ?_)
  refine hx_if ?_ ?_
  · exact hx_map (eh_X8_prepare_127 h) (fun r => rfl) (fun r q => q)
  · refine he_gr h (f := 800) (c := 8) (o := 0) ⟨by decide, by decide⟩ rfl ?_
    refine he_gr h (f := 800) (c := 8) (o := 0) ⟨by decide, by decide⟩ rfl ?_
    refine he_gr h (f := 211) (c := 2) (o := 0) ⟨by decide, by decide⟩ rfl ?_
    refine hx_is h ⟨rfl, by decide, by decide⟩ ?_
    refine hx_cv (eh_X2_unpack h) (fun μ6 h => ?_)
    refine he_gA h (f := 802) (c := 8) (o := 0) ⟨rfl, by decide⟩ rfl ?_
    refine he_gr h (f := 801) (c := 8) (o := 0) ⟨by decide, by decide⟩ rfl ?_
    refine he_gr h (f := 800) (c := 8) (o := 0) ⟨by decide, by decide⟩ rfl ?_
    refine he_gr h (f := 211) (c := 2) (o := 0) ⟨by decide, by decide⟩ rfl ?_
    refine hx_is h ⟨rfl, by decide, by decide⟩ ?_
    refine hx_ci (eh_X7_props h) (fun v11 μ12 h => ?_)
    refine he_pa h (f := 802) (o := 0) ⟨⟨rfl, by decide, by decide⟩, rfl⟩ (fun μ13 h => ?_)
    refine he_gA h (f := 805) (c := 8) (o := 0) ⟨rfl, by decide⟩ rfl ?_
    refine he_pa h (f := 805) (o := 0) ⟨⟨rfl, by decide, by decide⟩, rfl⟩ (fun μ15 h => ?_)
    exact (eh_X8_prepare_57 h)
noncomputable def h_X8_prepare_2 (x1 : Int) (μ : cM) : Option cO :=
  zloop (fun s : Int × cM => h_X8_prepare_2_b s.1 s.2) (x1, μ)
theorem eh_X8_prepare_2 {B : Nat} {τ : zM} {x1 : Int} {μ : cM} (h : cOK B τ μ.2) : hR (hf B) (hp B τ) (f_X8_prepare_2 (cad B 8 0) x1 (cw B μ)) (h_X8_prepare_2 x1 μ) := by
  unfold f_X8_prepare_2 h_X8_prepare_2
  refine hx_loop (φ := (fun s => (s.1, cw B s.2))) (Ps := (fun s : Int × cM => cOK B τ s.2.2)) (s := (x1, μ)) h (fun s hs => ?_)
  exact eh_X8_prepare_2_b hs
noncomputable def h_X8_prepare (μ : cM) : Option cO :=
  h_X8_prepare_2 0 μ
theorem eh_X8_prepare {B : Nat} {τ : zM} {μ : cM} (h : cOK B τ μ.2) : hR (hf B) (hp B τ) (f_X8_prepare (cad B 8 0) (cw B μ)) (h_X8_prepare  μ) := by
  unfold f_X8_prepare h_X8_prepare
  exact (eh_X8_prepare_2 h)
noncomputable def h_X8_enter (x1 : Int) (μ : cM) : Option cO :=
  zlet (hG μ 813 0) fun v1 =>
  hwl (hS μ 813 0 (zadd v1 1)) fun μ2 =>
  zlet (hG μ2 813 0) fun v4 =>
  (hpa μ2 807 0 x1 v4).bind fun μ5 =>
  zlet (hG μ5 813 0) fun v7 =>
  (hpa μ5 808 0 x1 v7).bind fun μ8 =>
  zgd (z01 1) <|
  (hpa μ8 812 0 x1 1).bind fun μ10 =>
  zlet (hG μ10 814 0) fun v12 =>
  (hpa μ10 810 0 v12 x1).bind fun μ13 =>
  zlet (hG μ13 814 0) fun v14 =>
  hwl (hS μ13 814 0 (zadd v14 1)) fun μ15 =>
  some (0, ((3, 0) : zV), μ15)
theorem eh_X8_enter {B : Nat} {τ : zM} {x1 : Int} {μ : cM} (h : cOK B τ μ.2) : hR (hf B) (hp B τ) (f_X8_enter (cad B 8 0) x1 (cw B μ)) (h_X8_enter x1 μ) := by
  unfold f_X8_enter h_X8_enter
  refine he_gs h (f := 813) (c := 8) (o := 0) ⟨rfl, by decide, by decide⟩ rfl (fun v1 => ?_)
  refine he_ps h (f := 813) (c := 8) (o := 0) ⟨rfl, by decide, by decide⟩ rfl (fun μ2 h => ?_)
  refine he_gA h (f := 807) (c := 8) (o := 0) ⟨rfl, by decide⟩ rfl ?_
  refine he_gs h (f := 813) (c := 8) (o := 0) ⟨rfl, by decide, by decide⟩ rfl (fun v4 => ?_)
  refine he_pa h (f := 807) (o := 0) ⟨⟨rfl, by decide, by decide⟩, rfl⟩ (fun μ5 h => ?_)
  refine he_gA h (f := 808) (c := 8) (o := 0) ⟨rfl, by decide⟩ rfl ?_
  refine he_gs h (f := 813) (c := 8) (o := 0) ⟨rfl, by decide, by decide⟩ rfl (fun v7 => ?_)
  refine he_pa h (f := 808) (o := 0) ⟨⟨rfl, by decide, by decide⟩, rfl⟩ (fun μ8 h => ?_)
  refine he_gA h (f := 812) (c := 8) (o := 0) ⟨rfl, by decide⟩ rfl ?_
  refine hx_gd ?_
  refine he_pa h (f := 812) (o := 0) ⟨⟨rfl, by decide, by decide⟩, rfl⟩ (fun μ10 h => ?_)
  refine he_gA h (f := 810) (c := 8) (o := 0) ⟨rfl, by decide⟩ rfl ?_
  refine he_gs h (f := 814) (c := 8) (o := 0) ⟨rfl, by decide, by decide⟩ rfl (fun v12 => ?_)
  refine he_pa h (f := 810) (o := 0) ⟨⟨rfl, by decide, by decide⟩, rfl⟩ (fun μ13 h => ?_)
  refine he_gs h (f := 814) (c := 8) (o := 0) ⟨rfl, by decide, by decide⟩ rfl (fun v14 => ?_)
  refine he_ps h (f := 814) (c := 8) (o := 0) ⟨rfl, by decide, by decide⟩ rfl (fun μ15 h => ?_)
  first | exact hx_some rfl h | exact hx_some rfl trivial
noncomputable def h_X2_stepsOf (x1 : Int) (μ : cM) : Option cO :=
  (hga μ 215 0 (zadd x1 1)).bind fun v2 =>
  (hga μ 215 0 x1).bind fun v4 =>
  some (0, zi (zsub v2 v4), μ)
theorem eh_X2_stepsOf {B : Nat} {τ : zM} {x1 : Int} {μ : cM} (h : cOK B τ μ.2) : hR (hf B) (hp B τ) (f_X2_stepsOf (cad B 2 0) x1 (cw B μ)) (h_X2_stepsOf x1 μ) := by
  unfold f_X2_stepsOf h_X2_stepsOf
  refine he_gA h (f := 215) (c := 2) (o := 0) ⟨rfl, by decide⟩ rfl ?_
  refine he_ga h (f := 215) (o := 0) ⟨⟨rfl, by decide, by decide⟩, rfl⟩ (fun v2 => ?_)
  refine he_gA h (f := 215) (c := 2) (o := 0) ⟨rfl, by decide⟩ rfl ?_
  refine he_ga h (f := 215) (o := 0) ⟨⟨rfl, by decide, by decide⟩, rfl⟩ (fun v4 => ?_)
  first | exact hx_some rfl h | exact hx_some rfl trivial

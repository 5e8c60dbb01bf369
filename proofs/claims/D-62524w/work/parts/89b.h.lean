set_option maxRecDepth 100000
noncomputable def h_X12_init (x0 x1 : Int) (μ : cM) : Option cO :=
  zgd (decide (0 ≤ x0)) <|
  hcv (h_J22_init x0 μ) fun μ1 =>
  (hup μ1 (zpf μ1.2 1200 x0 x1)).bind fun μ2 =>
  some (0, ((3, 0) : zV), μ2)
theorem eh_X12_init {B : Nat} {τ : zM} {x0 x1 : Int} {μ : cM} (h : cOK B τ μ.2) : hR (hf B) (hp B τ) (f_X12_init x0 x1 (cw B μ)) (h_X12_init x0 x1 μ) := by
  unfold f_X12_init h_X12_init
  refine hx_gd ?_
  refine hx_cv (eh_J22_init h) (fun μ1 h => ?_)
  refine he_pd h 1200 ⟨by decide, by decide⟩ rfl (fun μ2 h => ?_)
  first | exact hx_some rfl h | exact hx_some rfl trivial
noncomputable def h_X13_init (x0 x1 : Int) (μ : cM) : Option cO :=
  zgd (decide (0 ≤ x0)) <|
  hcv (h_J22_init x0 μ) fun μ1 =>
  (hup μ1 (zpf μ1.2 1300 x0 x1)).bind fun μ2 =>
  some (0, ((3, 0) : zV), μ2)
theorem eh_X13_init {B : Nat} {τ : zM} {x0 x1 : Int} {μ : cM} (h : cOK B τ μ.2) : hR (hf B) (hp B τ) (f_X13_init x0 x1 (cw B μ)) (h_X13_init x0 x1 μ) := by
  unfold f_X13_init h_X13_init
  refine hx_gd ?_
  refine hx_cv (eh_J22_init h) (fun μ1 h => ?_)
  refine he_pd h 1300 ⟨by decide, by decide⟩ rfl (fun μ2 h => ?_)
  first | exact hx_some rfl h | exact hx_some rfl trivial
noncomputable def h_X14_init (x0 x1 x2 x3 : Int) (μ : cM) : Option cO :=
  zgd (decide (0 ≤ x0)) <|
  hcv (h_J22_init x0 μ) fun μ1 =>
  zgd (zch x1) <|
  (hup μ1 (zpf μ1.2 1400 x0 x1)).bind fun μ2 =>
  (hup μ2 (zpf μ2.2 1401 x0 x2)).bind fun μ3 =>
  (hup μ3 (zpf μ3.2 1402 x0 x3)).bind fun μ4 =>
  some (0, ((3, 0) : zV), μ4)
theorem eh_X14_init {B : Nat} {τ : zM} {x0 x1 x2 x3 : Int} {μ : cM} (h : cOK B τ μ.2) : hR (hf B) (hp B τ) (f_X14_init x0 x1 x2 x3 (cw B μ)) (h_X14_init x0 x1 x2 x3 μ) := by
  unfold f_X14_init h_X14_init
  refine hx_gd ?_
  refine hx_cv (eh_J22_init h) (fun μ1 h => ?_)
  refine hx_gd ?_
  refine he_pd h 1400 ⟨by decide, by decide⟩ rfl (fun μ2 h => ?_)
  refine he_pd h 1401 ⟨by decide, by decide⟩ rfl (fun μ3 h => ?_)
  refine he_pd h 1402 ⟨by decide, by decide⟩ rfl (fun μ4 h => ?_)
  first | exact hx_some rfl h | exact hx_some rfl trivial
def HRC_G_X5_expression (B : Nat) (τ : zM) (rc : Nat → List Int → zM → Option zO) (rc' : Nat → List Int → cM → Option cO) : Prop :=
  (∀ {x0 : Int} {μ : cM}, cOK B τ μ.2 → hR (hf B) (hp B τ) (rc 0 [cad B 5 x0] (cw B μ)) (rc' 0 [x0] μ)) ∧
  (∀ {x0 : Int} {μ : cM}, cOK B τ μ.2 → hR (hf B) (hp B τ) (rc 1 [cad B 5 x0] (cw B μ)) (rc' 1 [x0] μ)) ∧
  (∀ {x0 : Int} {μ : cM}, cOK B τ μ.2 → hR (hf B) (hp B τ) (rc 2 [cad B 5 x0] (cw B μ)) (rc' 2 [x0] μ)) ∧
  (∀ {x0 : Int} {μ : cM}, cOK B τ μ.2 → hR (hf B) (hp B τ) (rc 3 [cad B 5 x0] (cw B μ)) (rc' 3 [x0] μ)) ∧ True
noncomputable def h_X5_expression_24 (rc' : Nat → List Int → cM → Option cO) (x0 x1 x2 : Int) (μ : cM) : Option cO :=
  zlet (hG μ 502 x0) fun v1 =>
  hwl (hS μ 502 x0 (zadd v1 1)) fun μ2 =>
  (hup μ2 (znO μ2.2 14 3)).bind fun μ3 =>
  zlet ((↑(zN μ2.2) : Int)) fun y4 =>
  hcrT (rc' 3 [x0] μ3) (fun n a μ6 => some (n + 1, zr a, μ6)) fun v5 μ6 =>
  zgd (decide (0 ≤ y4)) <|
  hcv (h_X14_init y4 x2 x1 v5 μ6) fun μ7 =>
  some (0, zr y4, μ7)
theorem eh_X5_expression_24 {B : Nat} {τ : zM} {rc : Nat → List Int → zM → Option zO} {rc' : Nat → List Int → cM → Option cO} (hrc : HRC_G_X5_expression B τ rc rc') {x0 x1 x2 : Int} {μ : cM} (h : cOK B τ μ.2) : hR (hf B) (hp B τ) (f_X5_expression_24 rc (cad B 5 x0) x1 x2 (cw B μ)) (h_X5_expression_24 rc' x0 x1 x2 μ) := by
  unfold f_X5_expression_24 h_X5_expression_24
  refine he_gs h (f := 502) (c := 5) (o := x0) ⟨rfl, by decide, by decide⟩ rfl (fun v1 => ?_)
  refine he_ps h (f := 502) (c := 5) (o := x0) ⟨rfl, by decide, by decide⟩ rfl (fun μ2 h => ?_)
  refine he_nO h (fun μ3 h => ?_)
  refine hx_let (fun y4 => ?_)
  refine hx_crT (hrc.2.2.2.1 h) (fun n a μ6 h => hx_some rfl h) (fun v5 μ6 h => ?_)
  refine hx_gd ?_
  refine hx_cv (eh_X14_init h) (fun μ7 h => ?_)
  first | exact hx_some rfl h | exact hx_some rfl trivial
noncomputable def h_X5_expression (rc' : Nat → List Int → cM → Option cO) (x0 : Int) (μ : cM) : Option cO :=
  hcrT (rc' 3 [x0] μ) (fun n a μ2 => some (n + 1, zr a, μ2)) fun v1 μ2 =>
  hci (h_X5_now x0 μ2) fun v3 μ4 =>
  if v3 = 61 then
    h_X5_expression_24 rc' x0 v1 v3 μ4
  else
    if v3 = 60 then
      h_X5_expression_24 rc' x0 v1 v3 μ4
    else
      some (0, zr v1, μ4)
theorem eh_X5_expression {B : Nat} {τ : zM} {rc : Nat → List Int → zM → Option zO} {rc' : Nat → List Int → cM → Option cO} (hrc : HRC_G_X5_expression B τ rc rc') {x0 : Int} {μ : cM} (h : cOK B τ μ.2) : hR (hf B) (hp B τ) (f_X5_expression rc (cad B 5 x0) (cw B μ)) (h_X5_expression rc' x0 μ) := by
  unfold f_X5_expression h_X5_expression
  refine hx_crT (hrc.2.2.2.1 h) (fun n a μ2 h => hx_some rfl h) (fun v1 μ2 h => ?_)
  refine hx_is2 h ?_
  refine hx_ci (eh_X5_now h) (fun v3 μ4 h => ?_)
  refine hx_if ?_ ?_
  · exact (eh_X5_expression_24 hrc h)
  · refine hx_if ?_ ?_
    · exact (eh_X5_expression_24 hrc h)
    · first | exact hx_some rfl h | exact hx_some rfl trivial
noncomputable def h_X5_part_157 (rc' : Nat → List Int → cM → Option cO) (x0 t0 : Int) (μ : cM) : Option cO :=
  hcvT (h_X5_need t0 μ) (fun n a μ1 => some (n + 1, zr a, μ1)) fun μ1 =>
  (hup μ1 (znO μ1.2 13 1)).bind fun μ2 =>
  zlet ((↑(zN μ1.2) : Int)) fun y3 =>
  hciT (h_X5_letter x0 97 8 μ2) (fun n a μ5 => some (n + 1, zr a, μ5)) fun v4 μ5 =>
  zgd (decide (0 ≤ y3)) <|
  hcv (h_X13_init y3 v4 μ5) fun μ6 =>
  some (0, zr y3, μ6)
theorem eh_X5_part_157 {B : Nat} {τ : zM} {rc : Nat → List Int → zM → Option zO} {rc' : Nat → List Int → cM → Option cO} (hrc : HRC_G_X5_expression B τ rc rc') {x0 t0 : Int} {μ : cM} (h : cOK B τ μ.2) : hR (hf B) (hp B τ) (f_X5_part_157 rc (cad B 5 x0) t0 (cw B μ)) (h_X5_part_157 rc' x0 t0 μ) := by
  unfold f_X5_part_157 h_X5_part_157
  refine hx_cvT (eh_X5_need h) (fun n a μ1 h => hx_some rfl h) (fun μ1 h => ?_)
  refine he_nO h (fun μ2 h => ?_)
  refine hx_let (fun y3 => ?_)
  refine hx_is2 h ?_
  refine hx_ciT (eh_X5_letter h) (fun n a μ5 h => hx_some rfl h) (fun v4 μ5 h => ?_)
  refine hx_gd ?_
  refine hx_cv (eh_X13_init h) (fun μ6 h => ?_)
  first | exact hx_some rfl h | exact hx_some rfl trivial
noncomputable def h_X5_part_156 (rc' : Nat → List Int → cM → Option cO) (x0 : Int) (μ : cM) : Option cO :=
  h_X5_part_157 rc' x0 0 μ
theorem eh_X5_part_156 {B : Nat} {τ : zM} {rc : Nat → List Int → zM → Option zO} {rc' : Nat → List Int → cM → Option cO} (hrc : HRC_G_X5_expression B τ rc rc') {x0 : Int} {μ : cM} (h : cOK B τ μ.2) : hR (hf B) (hp B τ) (f_X5_part_156 rc (cad B 5 x0) (cw B μ)) (h_X5_part_156 rc' x0 μ) := by
  unfold f_X5_part_156 h_X5_part_156
  exact (eh_X5_part_157 hrc h)
noncomputable def h_X5_part_125 (rc' : Nat → List Int → cM → Option cO) (x0 x1 : Int) (μ : cM) : Option cO :=
  if x1 < 97 then
    h_X5_part_156 rc' x0 μ
  else
    if 104 < x1 then
      h_X5_part_156 rc' x0 μ
    else
      (hga μ 200 0 (zsub x1 97)).bind fun v3 =>
      if v3 = 0 then
        h_X5_part_156 rc' x0 μ
      else
        h_X5_part_157 rc' x0 1 μ
theorem eh_X5_part_125 {B : Nat} {τ : zM} {rc : Nat → List Int → zM → Option zO} {rc' : Nat → List Int → cM → Option cO} (hrc : HRC_G_X5_expression B τ rc rc') {x0 x1 : Int} {μ : cM} (h : cOK B τ μ.2) : hR (hf B) (hp B τ) (f_X5_part_125 rc (cad B 5 x0) x1 (cw B μ)) (h_X5_part_125 rc' x0 x1 μ) := by
  unfold f_X5_part_125 h_X5_part_125
  refine hx_if ?_ ?_
  · exact (eh_X5_part_156 hrc h)
  · refine hx_if ?_ ?_
    · exact (eh_X5_part_156 hrc h)
    · refine he_gr h (f := 500) (c := 5) (o := x0) ⟨by decide, by decide⟩ rfl ?_
      refine he_gA h (f := 200) (c := 2) (o := 0) ⟨rfl, by decide⟩ rfl ?_
      refine he_ga h (f := 200) (o := 0) ⟨⟨rfl, by decide, by decide⟩, rfl⟩ (fun v3 => ?_)
      refine hx_if ?_ ?_
      · exact (eh_X5_part_156 hrc h)
      · exact (eh_X5_part_157 hrc h)
noncomputable def h_X5_part_84 (rc' : Nat → List Int → cM → Option cO) (x0 x1 t0 : Int) (μ : cM) : Option cO :=
  hcvT (h_X5_need t0 μ) (fun n a μ1 => some (n + 1, zr a, μ1)) fun μ1 =>
  zlet (hG μ1 504 x0) fun v2 =>
  hwl (hS μ1 504 x0 (zadd v2 1)) fun μ3 =>
  if x1 < 48 then
    h_X5_part_125 rc' x0 x1 μ3
  else
    if 55 < x1 then
      h_X5_part_125 rc' x0 x1 μ3
    else
      (hup μ3 (znO μ3.2 12 1)).bind fun μ4 =>
      zlet ((↑(zN μ3.2) : Int)) fun y5 =>
      hciT (h_X5_letter x0 48 8 μ4) (fun n a μ7 => some (n + 1, zr a, μ7)) fun v6 μ7 =>
      zgd (decide (0 ≤ y5)) <|
      hcv (h_X12_init y5 v6 μ7) fun μ8 =>
      some (0, zr y5, μ8)
theorem eh_X5_part_84 {B : Nat} {τ : zM} {rc : Nat → List Int → zM → Option zO} {rc' : Nat → List Int → cM → Option cO} (hrc : HRC_G_X5_expression B τ rc rc') {x0 x1 t0 : Int} {μ : cM} (h : cOK B τ μ.2) : hR (hf B) (hp B τ) (f_X5_part_84 rc (cad B 5 x0) x1 t0 (cw B μ)) (h_X5_part_84 rc' x0 x1 t0 μ) := by
  unfold f_X5_part_84 h_X5_part_84
  refine hx_cvT (eh_X5_need h) (fun n a μ1 h => hx_some rfl h) (fun μ1 h => ?_)
  refine he_gs h (f := 504) (c := 5) (o := x0) ⟨rfl, by decide, by decide⟩ rfl (fun v2 => ?_)
  refine he_ps h (f := 504) (c := 5) (o := x0) ⟨rfl, by decide, by decide⟩ rfl (fun μ3 h => ?_)
  refine hx_if ?_ ?_
  · exact (eh_X5_part_125 hrc h)
  · refine hx_if ?_ ?_
    · exact (eh_X5_part_125 hrc h)
    · refine he_nO h (fun μ4 h => ?_)
      refine hx_let (fun y5 => ?_)
      refine hx_is2 h ?_
      refine hx_ciT (eh_X5_letter h) (fun n a μ7 h => hx_some rfl h) (fun v6 μ7 h => ?_)
      refine hx_gd ?_
      refine hx_cv (eh_X12_init h) (fun μ8 h => ?_)
      first | exact hx_some rfl h | exact hx_some rfl trivial
noncomputable def h_X5_part_24 (rc' : Nat → List Int → cM → Option cO) (x0 t0 : Int) (μ : cM) : Option cO :=
  hcvT (h_X5_need t0 μ) (fun n a μ1 => some (n + 1, zr a, μ1)) fun μ1 =>
  zlet (hG μ1 503 x0) fun v2 =>
  hwl (hS μ1 503 x0 (zadd v2 1)) fun μ3 =>
  zlet (hG μ3 502 x0) fun v4 =>
  hwl (hS μ3 502 x0 (zadd v4 1)) fun μ5 =>
  hcrT (rc' 0 [x0] μ5) (fun n a μ7 => some (n + 1, zr a, μ7)) fun v6 μ7 =>
  hcvT (h_X5_sign x0 41 μ7) (fun n a μ8 => some (n + 1, zr a, μ8)) fun μ8 =>
  zlet (hG μ8 503 x0) fun v9 =>
  hwl (hS μ8 503 x0 (zsub v9 1)) fun μ10 =>
  some (0, zr v6, μ10)
theorem eh_X5_part_24 {B : Nat} {τ : zM} {rc : Nat → List Int → zM → Option zO} {rc' : Nat → List Int → cM → Option cO} (hrc : HRC_G_X5_expression B τ rc rc') {x0 t0 : Int} {μ : cM} (h : cOK B τ μ.2) : hR (hf B) (hp B τ) (f_X5_part_24 rc (cad B 5 x0) t0 (cw B μ)) (h_X5_part_24 rc' x0 t0 μ) := by
  unfold f_X5_part_24 h_X5_part_24
  refine hx_cvT (eh_X5_need h) (fun n a μ1 h => hx_some rfl h) (fun μ1 h => ?_)
  refine he_gs h (f := 503) (c := 5) (o := x0) ⟨rfl, by decide, by decide⟩ rfl (fun v2 => ?_)
  refine he_ps h (f := 503) (c := 5) (o := x0) ⟨rfl, by decide, by decide⟩ rfl (fun μ3 h => ?_)
  refine he_gs h (f := 502) (c := 5) (o := x0) ⟨rfl, by decide, by decide⟩ rfl (fun v4 => ?_)
  refine he_ps h (f := 502) (c := 5) (o := x0) ⟨rfl, by decide, by decide⟩ rfl (fun μ5 h => ?_)
  refine hx_crT (hrc.1 h) (fun n a μ7 h => hx_some rfl h) (fun v6 μ7 h => ?_)
  refine hx_is2 h ?_
  refine hx_cvT (eh_X5_sign h) (fun n a μ8 h => hx_some rfl h) (fun μ8 h => ?_)
  refine he_gs h (f := 503) (c := 5) (o := x0) ⟨rfl, by decide, by decide⟩ rfl (fun v9 => ?_)
  refine he_ps h (f := 503) (c := 5) (o := x0) ⟨rfl, by decide, by decide⟩ rfl (fun μ10 h => ?_)
  first | exact hx_some rfl h | exact hx_some rfl trivial
noncomputable def h_X5_part (rc' : Nat → List Int → cM → Option cO) (x0 : Int) (μ : cM) : Option cO :=
  hci (h_X5_now x0 μ) fun v1 μ2 =>
  if v1 ≠ 40 then
    zlet (hG μ2 504 x0) fun v3 =>
    if 12 ≤ v3 then
      h_X5_part_84 rc' x0 v1 0 μ2
    else
      h_X5_part_84 rc' x0 v1 1 μ2
  else
    zlet (hG μ2 503 x0) fun v4 =>
    if 4 ≤ v4 then
      h_X5_part_24 rc' x0 0 μ2
    else
      h_X5_part_24 rc' x0 1 μ2
theorem eh_X5_part {B : Nat} {τ : zM} {rc : Nat → List Int → zM → Option zO} {rc' : Nat → List Int → cM → Option cO} (hrc : HRC_G_X5_expression B τ rc rc') {x0 : Int} {μ : cM} (h : cOK B τ μ.2) : hR (hf B) (hp B τ) (f_X5_part rc (cad B 5 x0) (cw B μ)) (h_X5_part rc' x0 μ) := by
  unfold f_X5_part h_X5_part
  refine hx_is2 h ?_
  refine hx_ci (eh_X5_now h) (fun v1 μ2 h => ?_)
  refine hx_if ?_ ?_
  · refine he_gs h (f := 504) (c := 5) (o := x0) ⟨rfl, by decide, by decide⟩ rfl (fun v3 => ?_)
    refine hx_if ?_ ?_
    · exact (eh_X5_part_84 hrc h)
    · exact (eh_X5_part_84 hrc h)
  · refine he_gs h (f := 503) (c := 5) (o := x0) ⟨rfl, by decide, by decide⟩ rfl (fun v4 => ?_)
    refine hx_if ?_ ?_
    · exact (eh_X5_part_24 hrc h)
    · exact (eh_X5_part_24 hrc h)
noncomputable def h_X5_product_32 (rc' : Nat → List Int → cM → Option cO) (x1 : Int) (μ : cM) : Option cO :=
  some (0, zr x1, μ)
theorem eh_X5_product_32 {B : Nat} {τ : zM} {rc : Nat → List Int → zM → Option zO} {rc' : Nat → List Int → cM → Option cO} (hrc : HRC_G_X5_expression B τ rc rc') {x1 : Int} {μ : cM} (h : cOK B τ μ.2) : hR (hf B) (hp B τ) (f_X5_product_32 rc x1 (cw B μ)) (h_X5_product_32 rc' x1 μ) := by
  unfold f_X5_product_32 h_X5_product_32
  first | exact hx_some rfl h | exact hx_some rfl trivial
noncomputable def h_X5_product_5_b (rc' : Nat → List Int → cM → Option cO) (x0 x1 : Int) (μ : cM) : Option ((Int × cM) ⊕ cO) :=
  hci (h_X5_take x0 42 μ) fun v1 μ2 =>
  if v1 = 0 then
    (h_X5_product_32 rc' x1 μ2).map (fun r => (.inr r))
  else
    (hup μ2 (znO μ2.2 14 3)).bind fun μ3 =>
    zlet ((↑(zN μ2.2) : Int)) fun y4 =>
    hcrT (rc' 1 [x0] μ3) (fun n a μ6 => some (.inr (n + 1, zr a, μ6))) fun v5 μ6 =>
    zgd (decide (0 ≤ y4)) <|
    hcv (h_X14_init y4 42 x1 v5 μ6) fun μ7 =>
    some (.inl (y4, μ7))
theorem eh_X5_product_5_b {B : Nat} {τ : zM} {rc : Nat → List Int → zM → Option zO} {rc' : Nat → List Int → cM → Option cO} (hrc : HRC_G_X5_expression B τ rc rc') {x0 x1 : Int} {μ : cM} (h : cOK B τ μ.2) : hR (Sum.map (fun s => (s.1, cw B s.2)) (hf B)) (Sum.elim (fun s : Int × cM => cOK B τ s.2.2) (hp B τ)) (f_X5_product_5_b rc (cad B 5 x0) x1 (cw B μ)) (h_X5_product_5_b rc' x0 x1 μ) := by
  unfold f_X5_product_5_b h_X5_product_5_b
  refine hx_is2 h ?_
  refine hx_ci (eh_X5_take h) (fun v1 μ2 h => ?_)
  refine hx_if ?_ ?_
  · exact hx_map (eh_X5_product_32 hrc h) (fun r => rfl) (fun r q => q)
  · refine he_nO h (fun μ3 h => ?_)
    refine hx_let (fun y4 => ?_)
    refine hx_crT (hrc.2.1 h) (fun n a μ6 h => hx_some rfl h) (fun v5 μ6 h => ?_)
    refine hx_gd ?_
    refine hx_cv (eh_X14_init h) (fun μ7 h => ?_)
    first | exact hx_some rfl h | exact hx_some rfl trivial
noncomputable def h_X5_product_5 (rc' : Nat → List Int → cM → Option cO) (x0 x1 : Int) (μ : cM) : Option cO :=
  zloop (fun s : Int × cM => h_X5_product_5_b rc' x0 s.1 s.2) (x1, μ)
theorem eh_X5_product_5 {B : Nat} {τ : zM} {rc : Nat → List Int → zM → Option zO} {rc' : Nat → List Int → cM → Option cO} (hrc : HRC_G_X5_expression B τ rc rc') {x0 x1 : Int} {μ : cM} (h : cOK B τ μ.2) : hR (hf B) (hp B τ) (f_X5_product_5 rc (cad B 5 x0) x1 (cw B μ)) (h_X5_product_5 rc' x0 x1 μ) := by
  unfold f_X5_product_5 h_X5_product_5
  refine hx_loop (φ := (fun s => (s.1, cw B s.2))) (Ps := (fun s : Int × cM => cOK B τ s.2.2)) (s := (x1, μ)) h (fun s hs => ?_)
  exact eh_X5_product_5_b hrc hs
noncomputable def h_X5_product (rc' : Nat → List Int → cM → Option cO) (x0 : Int) (μ : cM) : Option cO :=
  hcrT (rc' 1 [x0] μ) (fun n a μ2 => some (n + 1, zr a, μ2)) fun v1 μ2 =>
  h_X5_product_5 rc' x0 v1 μ2
theorem eh_X5_product {B : Nat} {τ : zM} {rc : Nat → List Int → zM → Option zO} {rc' : Nat → List Int → cM → Option cO} (hrc : HRC_G_X5_expression B τ rc rc') {x0 : Int} {μ : cM} (h : cOK B τ μ.2) : hR (hf B) (hp B τ) (f_X5_product rc (cad B 5 x0) (cw B μ)) (h_X5_product rc' x0 μ) := by
  unfold f_X5_product h_X5_product
  refine hx_crT (hrc.2.1 h) (fun n a μ2 h => hx_some rfl h) (fun v1 μ2 h => ?_)
  exact (eh_X5_product_5 hrc h)
noncomputable def h_X5_sum_22 (rc' : Nat → List Int → cM → Option cO) (x0 x1 x2 : Int) (μ : cM) : Option ((Int × Int × cM) ⊕ cO) :=
  zlet (hG μ 502 x0) fun v1 =>
  hwl (hS μ 502 x0 (zadd v1 1)) fun μ2 =>
  (hup μ2 (znO μ2.2 14 3)).bind fun μ3 =>
  zlet ((↑(zN μ2.2) : Int)) fun y4 =>
  hcrT (rc' 2 [x0] μ3) (fun n a μ6 => some (.inr (n + 1, zr a, μ6))) fun v5 μ6 =>
  zgd (decide (0 ≤ y4)) <|
  hcv (h_X14_init y4 x2 x1 v5 μ6) fun μ7 =>
  hci (h_X5_now x0 μ7) fun v8 μ9 =>
  some (.inl (y4, v8, μ9))
theorem eh_X5_sum_22 {B : Nat} {τ : zM} {rc : Nat → List Int → zM → Option zO} {rc' : Nat → List Int → cM → Option cO} (hrc : HRC_G_X5_expression B τ rc rc') {x0 x1 x2 : Int} {μ : cM} (h : cOK B τ μ.2) : hR (Sum.map (fun s => (s.1, s.2.1, cw B s.2.2)) (hf B)) (Sum.elim (fun s : Int × Int × cM => cOK B τ s.2.2.2) (hp B τ)) (f_X5_sum_22 rc (cad B 5 x0) x1 x2 (cw B μ)) (h_X5_sum_22 rc' x0 x1 x2 μ) := by
  unfold f_X5_sum_22 h_X5_sum_22
  refine he_gs h (f := 502) (c := 5) (o := x0) ⟨rfl, by decide, by decide⟩ rfl (fun v1 => ?_)
  refine he_ps h (f := 502) (c := 5) (o := x0) ⟨rfl, by decide, by decide⟩ rfl (fun μ2 h => ?_)
  refine he_nO h (fun μ3 h => ?_)
  refine hx_let (fun y4 => ?_)
  refine hx_crT (hrc.2.2.1 h) (fun n a μ6 h => hx_some rfl h) (fun v5 μ6 h => ?_)
  refine hx_gd ?_
  refine hx_cv (eh_X14_init h) (fun μ7 h => ?_)
  refine hx_is2 h ?_
  refine hx_ci (eh_X5_now h) (fun v8 μ9 h => ?_)
  first | exact hx_some rfl h | exact hx_some rfl trivial
noncomputable def h_X5_sum_54 (rc' : Nat → List Int → cM → Option cO) (x1 : Int) (μ : cM) : Option cO :=
  some (0, zr x1, μ)
theorem eh_X5_sum_54 {B : Nat} {τ : zM} {rc : Nat → List Int → zM → Option zO} {rc' : Nat → List Int → cM → Option cO} (hrc : HRC_G_X5_expression B τ rc rc') {x1 : Int} {μ : cM} (h : cOK B τ μ.2) : hR (hf B) (hp B τ) (f_X5_sum_54 rc x1 (cw B μ)) (h_X5_sum_54 rc' x1 μ) := by
  unfold f_X5_sum_54 h_X5_sum_54
  first | exact hx_some rfl h | exact hx_some rfl trivial
noncomputable def h_X5_sum_10_b (rc' : Nat → List Int → cM → Option cO) (x0 x1 x2 : Int) (μ : cM) : Option ((Int × Int × cM) ⊕ cO) :=
  if x2 = 43 then
    h_X5_sum_22 rc' x0 x1 x2 μ
  else
    if x2 ≠ 45 then
      (h_X5_sum_54 rc' x1 μ).map (fun r => (.inr r))
    else
      h_X5_sum_22 rc' x0 x1 x2 μ
theorem eh_X5_sum_10_b {B : Nat} {τ : zM} {rc : Nat → List Int → zM → Option zO} {rc' : Nat → List Int → cM → Option cO} (hrc : HRC_G_X5_expression B τ rc rc') {x0 x1 x2 : Int} {μ : cM} (h : cOK B τ μ.2) : hR (Sum.map (fun s => (s.1, s.2.1, cw B s.2.2)) (hf B)) (Sum.elim (fun s : Int × Int × cM => cOK B τ s.2.2.2) (hp B τ)) (f_X5_sum_10_b rc (cad B 5 x0) x1 x2 (cw B μ)) (h_X5_sum_10_b rc' x0 x1 x2 μ) := by
  unfold f_X5_sum_10_b h_X5_sum_10_b
  refine hx_if ?_ ?_
  · exact (eh_X5_sum_22 hrc h)
  · refine hx_if ?_ ?_
    · exact hx_map (eh_X5_sum_54 hrc h) (fun r => rfl) (fun r q => q)
    · exact (eh_X5_sum_22 hrc h)
noncomputable def h_X5_sum_10 (rc' : Nat → List Int → cM → Option cO) (x0 x1 x2 : Int) (μ : cM) : Option cO :=
  zloop (fun s : Int × Int × cM => h_X5_sum_10_b rc' x0 s.1 s.2.1 s.2.2) (x1, x2, μ)
theorem eh_X5_sum_10 {B : Nat} {τ : zM} {rc : Nat → List Int → zM → Option zO} {rc' : Nat → List Int → cM → Option cO} (hrc : HRC_G_X5_expression B τ rc rc') {x0 x1 x2 : Int} {μ : cM} (h : cOK B τ μ.2) : hR (hf B) (hp B τ) (f_X5_sum_10 rc (cad B 5 x0) x1 x2 (cw B μ)) (h_X5_sum_10 rc' x0 x1 x2 μ) := by
  unfold f_X5_sum_10 h_X5_sum_10
  refine hx_loop (φ := (fun s => (s.1, s.2.1, cw B s.2.2))) (Ps := (fun s : Int × Int × cM => cOK B τ s.2.2.2)) (s := (x1, x2, μ)) h (fun s hs => ?_)
  exact eh_X5_sum_10_b hrc hs
noncomputable def h_X5_sum (rc' : Nat → List Int → cM → Option cO) (x0 : Int) (μ : cM) : Option cO :=
  hcrT (rc' 2 [x0] μ) (fun n a μ2 => some (n + 1, zr a, μ2)) fun v1 μ2 =>
  hci (h_X5_now x0 μ2) fun v3 μ4 =>
  h_X5_sum_10 rc' x0 v1 v3 μ4
theorem eh_X5_sum {B : Nat} {τ : zM} {rc : Nat → List Int → zM → Option zO} {rc' : Nat → List Int → cM → Option cO} (hrc : HRC_G_X5_expression B τ rc rc') {x0 : Int} {μ : cM} (h : cOK B τ μ.2) : hR (hf B) (hp B τ) (f_X5_sum rc (cad B 5 x0) (cw B μ)) (h_X5_sum rc' x0 μ) := by
  unfold f_X5_sum h_X5_sum
  refine hx_crT (hrc.2.2.1 h) (fun n a μ2 h => hx_some rfl h) (fun v1 μ2 h => ?_)
  refine hx_is2 h ?_
  refine hx_ci (eh_X5_now h) (fun v3 μ4 h => ?_)
  exact (eh_X5_sum_10 hrc h)
noncomputable def h_G_X5_expression : Nat → Nat → List Int → cM → Option cO
  | 0, _, _, _ => none
  | d + 1, tg, as, μ => match tg, as with
    | 0, [x0] => h_X5_expression (h_G_X5_expression d) x0 μ
    | 1, [x0] => h_X5_part (h_G_X5_expression d) x0 μ
    | 2, [x0] => h_X5_product (h_G_X5_expression d) x0 μ
    | 3, [x0] => h_X5_sum (h_G_X5_expression d) x0 μ
    | _, _ => none
theorem eh_G_X5_expression (B : Nat) (τ : zM) : ∀ d : Nat, HRC_G_X5_expression B τ (f_G_X5_expression d) (h_G_X5_expression d)
  | 0 => ⟨(fun _ => hR_none _ _), (fun _ => hR_none _ _), (fun _ => hR_none _ _), (fun _ => hR_none _ _), trivial⟩
  | d + 1 => ⟨(fun h => eh_X5_expression (eh_G_X5_expression B τ d) h), (fun h => eh_X5_part (eh_G_X5_expression B τ d) h), (fun h => eh_X5_product (eh_G_X5_expression B τ d) h), (fun h => eh_X5_sum (eh_G_X5_expression B τ d) h), trivial⟩
noncomputable def h_X5_whole (x0 x1 : Int) (μ : cM) : Option cO :=
  hwl (hS μ 503 x0 x1) fun μ1 =>
  hwl (hS μ1 504 x0 0) fun μ2 =>
  hcrT (h_G_X5_expression 40 0 [x0] μ2) (fun n a μ4 => some (n + 1, zr a, μ4)) fun v3 μ4 =>
  some (0, zr v3, μ4)
theorem eh_X5_whole {B : Nat} {τ : zM} {x0 x1 : Int} {μ : cM} (h : cOK B τ μ.2) : hR (hf B) (hp B τ) (f_X5_whole (cad B 5 x0) x1 (cw B μ)) (h_X5_whole x0 x1 μ) := by
  unfold f_X5_whole h_X5_whole
  refine he_ps h (f := 503) (c := 5) (o := x0) ⟨rfl, by decide, by decide⟩ rfl (fun μ1 h => ?_)
  refine he_ps h (f := 504) (c := 5) (o := x0) ⟨rfl, by decide, by decide⟩ rfl (fun μ2 h => ?_)
  refine hx_crT ((eh_G_X5_expression B τ 40).1 h) (fun n a μ4 h => hx_some rfl h) (fun v3 μ4 h => ?_)
  first | exact hx_some rfl h | exact hx_some rfl trivial
noncomputable def h_X6_action_171 (μ : cM) : Option cO :=
  some (0, ((3, 0) : zV), μ)
theorem eh_X6_action_171 {B : Nat} {τ : zM} {μ : cM} (h : cOK B τ μ.2) : hR (hf B) (hp B τ) (f_X6_action_171  (cw B μ)) (h_X6_action_171  μ) := by
  unfold f_X6_action_171 h_X6_action_171
  first | exact hx_some rfl h | exact hx_some rfl trivial
noncomputable def h_X6_action_144 (x1 t0 : Int) (μ : cM) : Option cO :=
  hcvT (h_X5_need t0 μ) (fun n a μ1 => some (n + 1, zr a, μ1)) fun μ1 =>
  hciT (h_X5_letter 0 97 8 μ1) (fun n a μ3 => some (n + 1, zr a, μ3)) fun v2 μ3 =>
  (hup μ3 (zpf μ3.2 1108 x1 v2)).bind fun μ4 =>
  h_X6_action_171 μ4
theorem eh_X6_action_144 {B : Nat} {τ : zM} {x1 t0 : Int} {μ : cM} (h : cOK B τ μ.2) : hR (hf B) (hp B τ) (f_X6_action_144 (cad B 5 0) x1 t0 (cw B μ)) (h_X6_action_144 x1 t0 μ) := by
  unfold f_X6_action_144 h_X6_action_144
  refine hx_cvT (eh_X5_need h) (fun n a μ1 h => hx_some rfl h) (fun μ1 h => ?_)
  refine hx_is h ⟨rfl, by decide, by decide⟩ ?_
  refine hx_ciT (eh_X5_letter h) (fun n a μ3 h => hx_some rfl h) (fun v2 μ3 h => ?_)
  refine he_pd h 1108 ⟨by decide, by decide⟩ rfl (fun μ4 h => ?_)
  exact (eh_X6_action_171 h)
noncomputable def h_X6_action_143 (x1 : Int) (μ : cM) : Option cO :=
  h_X6_action_144 x1 0 μ
theorem eh_X6_action_143 {B : Nat} {τ : zM} {x1 : Int} {μ : cM} (h : cOK B τ μ.2) : hR (hf B) (hp B τ) (f_X6_action_143 (cad B 5 0) x1 (cw B μ)) (h_X6_action_143 x1 μ) := by
  unfold f_X6_action_143 h_X6_action_143
  exact (eh_X6_action_144 h)
noncomputable def h_X6_action_93 (x1 x2 t0 t1 : Int) (μ : cM) : Option cO :=
  (hup μ (zpf μ.2 1100 t1 t0)).bind fun μ1 =>
  if x2 ≠ 63 then
    hcrT (h_X5_whole 0 0 μ1) (fun n a μ3 => some (n + 1, zr a, μ3)) fun v2 μ3 =>
    (hup μ3 (zpf μ3.2 1111 x1 v2)).bind fun μ4 =>
    h_X6_action_171 μ4
  else
    hci (h_X5_now 0 μ1) fun v5 μ6 =>
    if v5 < 97 then
      h_X6_action_143 x1 μ6
    else
      hci (h_X5_now 0 μ6) fun v7 μ8 =>
      if 104 < v7 then
        h_X6_action_143 x1 μ8
      else
        hci (h_X5_now 0 μ8) fun v11 μ12 =>
        (hga μ12 200 0 (zsub v11 97)).bind fun v13 =>
        if v13 ≠ 1 then
          h_X6_action_143 x1 μ12
        else
          h_X6_action_144 x1 1 μ12
theorem eh_X6_action_93 {B : Nat} {τ : zM} {x1 x2 t0 t1 : Int} {μ : cM} (h : cOK B τ μ.2) : hR (hf B) (hp B τ) (f_X6_action_93 (cad B 5 0) x1 x2 t0 t1 (cw B μ)) (h_X6_action_93 x1 x2 t0 t1 μ) := by
  unfold f_X6_action_93 h_X6_action_93
  refine he_pd h 1100 ⟨by decide, by decide⟩ rfl (fun μ1 h => ?_)
  refine hx_if ?_ ?_
  · refine hx_is h ⟨rfl, by decide, by decide⟩ ?_
    refine hx_crT (eh_X5_whole h) (fun n a μ3 h => hx_some rfl h) (fun v2 μ3 h => ?_)
    refine he_pd h 1111 ⟨by decide, by decide⟩ rfl (fun μ4 h => ?_)
    exact (eh_X6_action_171 h)
  · refine hx_is h ⟨rfl, by decide, by decide⟩ ?_
    refine hx_ci (eh_X5_now h) (fun v5 μ6 h => ?_)
    refine hx_if ?_ ?_
    · exact (eh_X6_action_143 h)
    · refine hx_is h ⟨rfl, by decide, by decide⟩ ?_
      refine hx_ci (eh_X5_now h) (fun v7 μ8 h => ?_)
      refine hx_if ?_ ?_
      · exact (eh_X6_action_143 h)
      · refine he_gr h (f := 500) (c := 5) (o := 0) ⟨by decide, by decide⟩ rfl ?_
        refine he_gA h (f := 200) (c := 2) (o := 0) ⟨rfl, by decide⟩ rfl ?_
        refine hx_is h ⟨rfl, by decide, by decide⟩ ?_
        refine hx_ci (eh_X5_now h) (fun v11 μ12 h => ?_)
        refine he_ga h (f := 200) (o := 0) ⟨⟨rfl, by decide, by decide⟩, rfl⟩ (fun v13 => ?_)
        refine hx_if ?_ ?_
        · exact (eh_X6_action_143 h)
        · exact (eh_X6_action_144 h)
noncomputable def h_X6_action_52 (x1 x2 t0 : Int) (μ : cM) : Option cO :=
  hcvT (h_X5_need t0 μ) (fun n a μ1 => some (n + 1, zr a, μ1)) fun μ1 =>
  zlet (hG μ1 502 0) fun v2 =>
  hwl (hS μ1 502 0 (zadd v2 1)) fun μ3 =>
  if x2 ≠ 61 then
    if x2 ≠ 33 then
      h_X6_action_93 x1 x2 (-5) x1 μ3
    else
      h_X6_action_93 x1 x2 (-4) x1 μ3
  else
    h_X6_action_93 x1 x2 (-2) x1 μ3
theorem eh_X6_action_52 {B : Nat} {τ : zM} {x1 x2 t0 : Int} {μ : cM} (h : cOK B τ μ.2) : hR (hf B) (hp B τ) (f_X6_action_52 (cad B 5 0) x1 x2 t0 (cw B μ)) (h_X6_action_52 x1 x2 t0 μ) := by
  unfold f_X6_action_52 h_X6_action_52
  refine hx_cvT (eh_X5_need h) (fun n a μ1 h => hx_some rfl h) (fun μ1 h => ?_)
  refine he_gs h (f := 502) (c := 5) (o := 0) ⟨rfl, by decide, by decide⟩ rfl (fun v2 => ?_)
  refine he_ps h (f := 502) (c := 5) (o := 0) ⟨rfl, by decide, by decide⟩ rfl (fun μ3 h => ?_)
  refine hx_if ?_ ?_
  · refine hx_if ?_ ?_
    · exact (eh_X6_action_93 h)
    · exact (eh_X6_action_93 h)
  · exact (eh_X6_action_93 h)
noncomputable def h_X6_action_47 (x1 x2 : Int) (μ : cM) : Option cO :=
  h_X6_action_52 x1 x2 1 μ
theorem eh_X6_action_47 {B : Nat} {τ : zM} {x1 x2 : Int} {μ : cM} (h : cOK B τ μ.2) : hR (hf B) (hp B τ) (f_X6_action_47 (cad B 5 0) x1 x2 (cw B μ)) (h_X6_action_47 x1 x2 μ) := by
  unfold f_X6_action_47 h_X6_action_47
  exact (eh_X6_action_52 h)
noncomputable def h_X6_action (x1 : Int) (μ : cM) : Option cO :=
  hci (h_X5_now 0 μ) fun v1 μ2 =>
  (zgf μ2.2 1107 x1).bind fun v5 =>
  (hga μ2 200 0 v5).bind fun v6 =>
  if v6 ≠ 1 then
    if v1 = 33 then
      h_X6_action_47 x1 v1 μ2
    else
      if v1 ≠ 63 then
        h_X6_action_52 x1 v1 0 μ2
      else
        h_X6_action_47 x1 v1 μ2
  else
    if v1 ≠ 61 then
      h_X6_action_52 x1 v1 0 μ2
    else
      h_X6_action_52 x1 v1 1 μ2
theorem eh_X6_action {B : Nat} {τ : zM} {x1 : Int} {μ : cM} (h : cOK B τ μ.2) : hR (hf B) (hp B τ) (f_X6_action (cad B 5 0) x1 (cw B μ)) (h_X6_action x1 μ) := by
  unfold f_X6_action h_X6_action
  refine hx_is h ⟨rfl, by decide, by decide⟩ ?_
  refine hx_ci (eh_X5_now h) (fun v1 μ2 h => ?_)
  refine he_gr h (f := 500) (c := 5) (o := 0) ⟨by decide, by decide⟩ rfl ?_
  refine he_gA h (f := 200) (c := 2) (o := 0) ⟨rfl, by decide⟩ rfl ?_
  refine he_gd 1107 rfl (fun v5 => ?_)
  refine he_ga h (f := 200) (o := 0) ⟨⟨rfl, by decide, by decide⟩, rfl⟩ (fun v6 => ?_)
  refine hx_if ?_ ?_
  · refine hx_if ?_ ?_
    · exact (eh_X6_action_47 h)
    · refine hx_if ?_ ?_
      · exact (eh_X6_action_52 h)
      · exact (eh_X6_action_47 h)
  · refine hx_if ?_ ?_
    · exact (eh_X6_action_52 h)
    · exact (eh_X6_action_52 h)
noncomputable def h_X6_basic_247 (x5 : Int) (μ : cM) : Option cO :=
  some (0, zr x5, μ)
theorem eh_X6_basic_247 {B : Nat} {τ : zM} {x5 : Int} {μ : cM} (h : cOK B τ μ.2) : hR (hf B) (hp B τ) (f_X6_basic_247 x5 (cw B μ)) (h_X6_basic_247 x5 μ) := by
  unfold f_X6_basic_247 h_X6_basic_247
  first | exact hx_some rfl h | exact hx_some rfl trivial
noncomputable def h_X6_basic_155 (x1 x3 x4 t0 : Int) (μ : cM) : Option cO :=
  hcr (h_X6_fresh t0 x1 μ) fun v1 μ2 =>
  hcvT (h_X6_tally v1 μ2) (fun n a μ3 => some (n + 1, zr a, μ3)) fun μ3 =>
  zlet (hG μ3 205 0) fun v5 =>
  (hup μ3 (zpf μ3.2 1109 v1 v5)).bind fun μ6 =>
  zlet (hG μ6 205 0) fun v8 =>
  hwl (hS μ6 205 0 (zadd v8 1)) fun μ9 =>
  zlet (hG μ9 502 0) fun v10 =>
  hwl (hS μ9 502 0 (zadd v10 1)) fun μ11 =>
  if x3 ≠ 40 then
    if x4 = 0 then
      h_X6_basic_247 v1 μ11
    else
      (hup μ11 (zpf μ11.2 1107 v1 (zsub x3 97))).bind fun μ12 =>
      hcvT (h_X6_action v1 μ12) (fun n a μ13 => some (n + 1, zr a, μ13)) fun μ13 =>
      h_X6_basic_247 v1 μ13
  else
    hcrT (h_X5_whole 0 1 μ11) (fun n a μ15 => some (n + 1, zr a, μ15)) fun v14 μ15 =>
    (hup μ15 (zpf μ15.2 1111 v1 v14)).bind fun μ16 =>
    hcvT (h_X5_sign 0 41 μ16) (fun n a μ17 => some (n + 1, zr a, μ17)) fun μ17 =>
    h_X6_basic_247 v1 μ17
theorem eh_X6_basic_155 {B : Nat} {τ : zM} {x1 x3 x4 t0 : Int} {μ : cM} (h : cOK B τ μ.2) : hR (hf B) (hp B τ) (f_X6_basic_155 (cad B 5 0) x1 x3 x4 t0 (cad B 5 0) (cw B μ)) (h_X6_basic_155 x1 x3 x4 t0 μ) := by
  unfold f_X6_basic_155 h_X6_basic_155
  refine hx_is h ⟨rfl, by decide, by decide⟩ ?_
  refine hx_cr (eh_X6_fresh h) (fun v1 μ2 h => ?_)
  refine hx_is h ⟨rfl, by decide, by decide⟩ ?_
  refine hx_cvT (eh_X6_tally h) (fun n a μ3 h => hx_some rfl h) (fun μ3 h => ?_)
  refine he_gr h (f := 500) (c := 5) (o := 0) ⟨by decide, by decide⟩ rfl ?_
  refine he_gs h (f := 205) (c := 2) (o := 0) ⟨rfl, by decide, by decide⟩ rfl (fun v5 => ?_)
  refine he_pd h 1109 ⟨by decide, by decide⟩ rfl (fun μ6 h => ?_)
  refine he_gr h (f := 500) (c := 5) (o := 0) ⟨by decide, by decide⟩ rfl ?_
  refine he_gs h (f := 205) (c := 2) (o := 0) ⟨rfl, by decide, by decide⟩ rfl (fun v8 => ?_)
  refine he_ps h (f := 205) (c := 2) (o := 0) ⟨rfl, by decide, by decide⟩ rfl (fun μ9 h => ?_)
  refine he_gs h (f := 502) (c := 5) (o := 0) ⟨rfl, by decide, by decide⟩ rfl (fun v10 => ?_)
  refine he_ps h (f := 502) (c := 5) (o := 0) ⟨rfl, by decide, by decide⟩ rfl (fun μ11 h => ?_)
  refine hx_if ?_ ?_
  · refine hx_if ?_ ?_
    · exact (eh_X6_basic_247 h)
    · refine he_pd h 1107 ⟨by decide, by decide⟩ rfl (fun μ12 h => ?_)
      refine hx_is h ⟨rfl, by decide, by decide⟩ ?_
      refine hx_cvT (eh_X6_action h) (fun n a μ13 h => hx_some rfl h) (fun μ13 h => ?_)
      exact (eh_X6_basic_247 h)
  · refine hx_is h ⟨rfl, by decide, by decide⟩ ?_
    refine hx_crT (eh_X5_whole h) (fun n a μ15 h => hx_some rfl h) (fun v14 μ15 h => ?_)
    refine he_pd h 1111 ⟨by decide, by decide⟩ rfl (fun μ16 h => ?_)
    refine hx_is h ⟨rfl, by decide, by decide⟩ ?_
    refine hx_cvT (eh_X5_sign h) (fun n a μ17 h => hx_some rfl h) (fun μ17 h => ?_)
    exact (eh_X6_basic_247 h)
noncomputable def h_X6_basic_124 (x1 x3 x4 t0 : Int) (μ : cM) : Option cO :=
  hcvT (h_X5_need t0 μ) (fun n a μ1 => some (n + 1, zr a, μ1)) fun μ1 =>
  if x3 ≠ 40 then
    if x3 ≠ 45 then
      h_X6_basic_155 x1 x3 x4 (-7) μ1
    else
      h_X6_basic_155 x1 x3 x4 (-6) μ1
  else
    h_X6_basic_155 x1 x3 x4 (-3) μ1
theorem eh_X6_basic_124 {B : Nat} {τ : zM} {x1 x3 x4 t0 : Int} {μ : cM} (h : cOK B τ μ.2) : hR (hf B) (hp B τ) (f_X6_basic_124 (cad B 5 0) x1 x3 x4 t0 (cw B μ)) (h_X6_basic_124 x1 x3 x4 t0 μ) := by
  unfold f_X6_basic_124 h_X6_basic_124
  refine hx_cvT (eh_X5_need h) (fun n a μ1 h => hx_some rfl h) (fun μ1 h => ?_)
  refine hx_if ?_ ?_
  · refine hx_if ?_ ?_
    · exact (eh_X6_basic_155 h)
    · exact (eh_X6_basic_155 h)
  · exact (eh_X6_basic_155 h)
noncomputable def h_X6_basic_119 (x1 x3 x4 : Int) (μ : cM) : Option cO :=
  h_X6_basic_124 x1 x3 x4 1 μ
theorem eh_X6_basic_119 {B : Nat} {τ : zM} {x1 x3 x4 : Int} {μ : cM} (h : cOK B τ μ.2) : hR (hf B) (hp B τ) (f_X6_basic_119 (cad B 5 0) x1 x3 x4 (cw B μ)) (h_X6_basic_119 x1 x3 x4 μ) := by
  unfold f_X6_basic_119 h_X6_basic_119
  exact (eh_X6_basic_124 h)
noncomputable def h_X6_basic_123 (x1 x3 x4 : Int) (μ : cM) : Option cO :=
  h_X6_basic_124 x1 x3 x4 0 μ
theorem eh_X6_basic_123 {B : Nat} {τ : zM} {x1 x3 x4 : Int} {μ : cM} (h : cOK B τ μ.2) : hR (hf B) (hp B τ) (f_X6_basic_123 (cad B 5 0) x1 x3 x4 (cw B μ)) (h_X6_basic_123 x1 x3 x4 μ) := by
  unfold f_X6_basic_123 h_X6_basic_123
  exact (eh_X6_basic_124 h)
noncomputable def h_X6_basic_92 (x1 x2 x3 x4 t0 : Int) (μ : cM) : Option cO :=
  hcvT (h_X5_need t0 μ) (fun n a μ1 => some (n + 1, zr a, μ1)) fun μ1 =>
  if x3 ≠ 126 then
    h_X6_basic_119 x1 x3 x4 μ1
  else
    if x2 = 0 then
      h_X6_basic_123 x1 x3 x4 μ1
    else
      if x1 = (-1) then
        h_X6_basic_123 x1 x3 x4 μ1
      else
        (zgf μ1.2 1100 x1).bind fun v2 =>
        if v2 = (-10) then
          h_X6_basic_123 x1 x3 x4 μ1
        else
          h_X6_basic_119 x1 x3 x4 μ1
theorem eh_X6_basic_92 {B : Nat} {τ : zM} {x1 x2 x3 x4 t0 : Int} {μ : cM} (h : cOK B τ μ.2) : hR (hf B) (hp B τ) (f_X6_basic_92 (cad B 5 0) x1 x2 x3 x4 t0 (cw B μ)) (h_X6_basic_92 x1 x2 x3 x4 t0 μ) := by
  unfold f_X6_basic_92 h_X6_basic_92
  refine hx_cvT (eh_X5_need h) (fun n a μ1 h => hx_some rfl h) (fun μ1 h => ?_)
  refine hx_if ?_ ?_
  · exact (eh_X6_basic_119 h)
  · refine hx_if ?_ ?_
    · exact (eh_X6_basic_123 h)
    · refine hx_if ?_ ?_
      · exact (eh_X6_basic_123 h)
      · refine he_gd 1100 rfl (fun v2 => ?_)
        refine hx_if ?_ ?_
        · exact (eh_X6_basic_123 h)
        · exact (eh_X6_basic_119 h)
noncomputable def h_X6_basic_91 (x1 x2 x3 x4 : Int) (μ : cM) : Option cO :=
  h_X6_basic_92 x1 x2 x3 x4 0 μ
theorem eh_X6_basic_91 {B : Nat} {τ : zM} {x1 x2 x3 x4 : Int} {μ : cM} (h : cOK B τ μ.2) : hR (hf B) (hp B τ) (f_X6_basic_91 (cad B 5 0) x1 x2 x3 x4 (cw B μ)) (h_X6_basic_91 x1 x2 x3 x4 μ) := by
  unfold f_X6_basic_91 h_X6_basic_91
  exact (eh_X6_basic_92 h)
noncomputable def h_X6_basic_87 (x1 x2 x3 x4 : Int) (μ : cM) : Option cO :=
  h_X6_basic_92 x1 x2 x3 x4 1 μ
theorem eh_X6_basic_87 {B : Nat} {τ : zM} {x1 x2 x3 x4 : Int} {μ : cM} (h : cOK B τ μ.2) : hR (hf B) (hp B τ) (f_X6_basic_87 (cad B 5 0) x1 x2 x3 x4 (cw B μ)) (h_X6_basic_87 x1 x2 x3 x4 μ) := by
  unfold f_X6_basic_87 h_X6_basic_87
  exact (eh_X6_basic_92 h)
noncomputable def h_X6_basic_52 (x1 x2 x3 x4 t0 : Int) (μ : cM) : Option cO :=
  hcvT (h_X5_need t0 μ) (fun n a μ1 => some (n + 1, zr a, μ1)) fun μ1 =>
  zlet (hG μ1 205 0) fun v3 =>
  if 48 ≤ v3 then
    h_X6_basic_91 x1 x2 x3 x4 μ1
  else
    if x4 = 0 then
      h_X6_basic_87 x1 x2 x3 x4 μ1
    else
      (hga μ1 200 0 (zsub x3 97)).bind fun v6 =>
      if v6 = 0 then
        h_X6_basic_91 x1 x2 x3 x4 μ1
      else
        h_X6_basic_87 x1 x2 x3 x4 μ1
theorem eh_X6_basic_52 {B : Nat} {τ : zM} {x1 x2 x3 x4 t0 : Int} {μ : cM} (h : cOK B τ μ.2) : hR (hf B) (hp B τ) (f_X6_basic_52 (cad B 5 0) x1 x2 x3 x4 t0 (cw B μ)) (h_X6_basic_52 x1 x2 x3 x4 t0 μ) := by
  unfold f_X6_basic_52 h_X6_basic_52
  refine hx_cvT (eh_X5_need h) (fun n a μ1 h => hx_some rfl h) (fun μ1 h => ?_)
  refine he_gr h (f := 500) (c := 5) (o := 0) ⟨by decide, by decide⟩ rfl ?_
  refine he_gs h (f := 205) (c := 2) (o := 0) ⟨rfl, by decide, by decide⟩ rfl (fun v3 => ?_)
  refine hx_if ?_ ?_
  · exact (eh_X6_basic_91 h)
  · refine hx_if ?_ ?_
    · exact (eh_X6_basic_87 h)
    · refine he_gr h (f := 500) (c := 5) (o := 0) ⟨by decide, by decide⟩ rfl ?_
      refine he_gA h (f := 200) (c := 2) (o := 0) ⟨rfl, by decide⟩ rfl ?_
      refine he_ga h (f := 200) (o := 0) ⟨⟨rfl, by decide, by decide⟩, rfl⟩ (fun v6 => ?_)
      refine hx_if ?_ ?_
      · exact (eh_X6_basic_91 h)
      · exact (eh_X6_basic_87 h)
noncomputable def h_X6_basic_47 (x1 x2 x3 x4 : Int) (μ : cM) : Option cO :=
  h_X6_basic_52 x1 x2 x3 x4 1 μ
theorem eh_X6_basic_47 {B : Nat} {τ : zM} {x1 x2 x3 x4 : Int} {μ : cM} (h : cOK B τ μ.2) : hR (hf B) (hp B τ) (f_X6_basic_47 (cad B 5 0) x1 x2 x3 x4 (cw B μ)) (h_X6_basic_47 x1 x2 x3 x4 μ) := by
  unfold f_X6_basic_47 h_X6_basic_47
  exact (eh_X6_basic_52 h)
noncomputable def h_X6_basic_22 (x1 x2 x3 t0 : Int) (μ : cM) : Option cO :=
  if t0 ≠ 0 then
    h_X6_basic_47 x1 x2 x3 t0 μ
  else
    if x3 = 40 then
      h_X6_basic_47 x1 x2 x3 t0 μ
    else
      if x3 = 45 then
        h_X6_basic_47 x1 x2 x3 t0 μ
      else
        if x3 ≠ 126 then
          h_X6_basic_52 x1 x2 x3 t0 0 μ
        else
          h_X6_basic_47 x1 x2 x3 t0 μ
theorem eh_X6_basic_22 {B : Nat} {τ : zM} {x1 x2 x3 t0 : Int} {μ : cM} (h : cOK B τ μ.2) : hR (hf B) (hp B τ) (f_X6_basic_22 (cad B 5 0) x1 x2 x3 t0 (cw B μ)) (h_X6_basic_22 x1 x2 x3 t0 μ) := by
  unfold f_X6_basic_22 h_X6_basic_22
  refine hx_if ?_ ?_
  · exact (eh_X6_basic_47 h)
  · refine hx_if ?_ ?_
    · exact (eh_X6_basic_47 h)
    · refine hx_if ?_ ?_
      · exact (eh_X6_basic_47 h)
      · refine hx_if ?_ ?_
        · exact (eh_X6_basic_52 h)
        · exact (eh_X6_basic_47 h)
noncomputable def h_X6_basic_21 (x1 x2 x3 : Int) (μ : cM) : Option cO :=
  h_X6_basic_22 x1 x2 x3 0 μ
theorem eh_X6_basic_21 {B : Nat} {τ : zM} {x1 x2 x3 : Int} {μ : cM} (h : cOK B τ μ.2) : hR (hf B) (hp B τ) (f_X6_basic_21 (cad B 5 0) x1 x2 x3 (cw B μ)) (h_X6_basic_21 x1 x2 x3 μ) := by
  unfold f_X6_basic_21 h_X6_basic_21
  exact (eh_X6_basic_22 h)
noncomputable def h_X6_basic (x1 x2 : Int) (μ : cM) : Option cO :=
  hci (h_X5_now 0 μ) fun v1 μ2 =>
  if v1 < 97 then
    h_X6_basic_21 x1 x2 v1 μ2
  else
    if 104 < v1 then
      h_X6_basic_21 x1 x2 v1 μ2
    else
      h_X6_basic_22 x1 x2 v1 1 μ2
theorem eh_X6_basic {B : Nat} {τ : zM} {x1 x2 : Int} {μ : cM} (h : cOK B τ μ.2) : hR (hf B) (hp B τ) (f_X6_basic (cad B 5 0) x1 x2 (cw B μ)) (h_X6_basic x1 x2 μ) := by
  unfold f_X6_basic h_X6_basic
  refine hx_is h ⟨rfl, by decide, by decide⟩ ?_
  refine hx_ci (eh_X5_now h) (fun v1 μ2 h => ?_)
  refine hx_if ?_ ?_
  · exact (eh_X6_basic_21 h)
  · refine hx_if ?_ ?_
    · exact (eh_X6_basic_21 h)
    · exact (eh_X6_basic_22 h)
def HRC_G_X6_bodies (B : Nat) (τ : zM) (rc : Nat → List Int → zM → Option zO) (rc' : Nat → List Int → cM → Option cO) : Prop :=
  (∀ {x1 x2 x3 : Int} {μ : cM}, cOK B τ μ.2 → hR (hf B) (hp B τ) (rc 0 [cad B 5 0, x1, x2, x3] (cw B μ)) (rc' 0 [x1, x2, x3] μ)) ∧
  (∀ {x1 x2 : Int} {μ : cM}, cOK B τ μ.2 → hR (hf B) (hp B τ) (rc 1 [cad B 5 0, x1, x2] (cw B μ)) (rc' 1 [x1, x2] μ)) ∧
  (∀ {x1 x2 x3 : Int} {μ : cM}, cOK B τ μ.2 → hR (hf B) (hp B τ) (rc 2 [cad B 5 0, x1, x2, x3] (cw B μ)) (rc' 2 [x1, x2, x3] μ)) ∧ True
noncomputable def h_X6_bodies_181 (rc' : Nat → List Int → cM → Option cO) (x4 t0 : Int) (μ : cM) : Option cO :=
  hcvT (h_X5_sign 0 t0 μ) (fun n a μ1 => some (n + 1, zr a, μ1)) fun μ1 =>
  some (0, zr x4, μ1)
theorem eh_X6_bodies_181 {B : Nat} {τ : zM} {rc : Nat → List Int → zM → Option zO} {rc' : Nat → List Int → cM → Option cO} (hrc : HRC_G_X6_bodies B τ rc rc') {x4 t0 : Int} {μ : cM} (h : cOK B τ μ.2) : hR (hf B) (hp B τ) (f_X6_bodies_181 rc x4 t0 (cad B 5 0) (cw B μ)) (h_X6_bodies_181 rc' x4 t0 μ) := by
  unfold f_X6_bodies_181 h_X6_bodies_181
  refine hx_is h ⟨rfl, by decide, by decide⟩ ?_
  refine hx_cvT (eh_X5_sign h) (fun n a μ1 h => hx_some rfl h) (fun μ1 h => ?_)
  first | exact hx_some rfl h | exact hx_some rfl trivial
noncomputable def h_X6_bodies_166 (rc' : Nat → List Int → cM → Option cO) (x1 x4 : Int) (μ : cM) : Option cO :=
  if x1 ≠ (-10) then
    h_X6_bodies_181 rc' x4 93 μ
  else
    h_X6_bodies_181 rc' x4 62 μ
theorem eh_X6_bodies_166 {B : Nat} {τ : zM} {rc : Nat → List Int → zM → Option zO} {rc' : Nat → List Int → cM → Option cO} (hrc : HRC_G_X6_bodies B τ rc rc') {x1 x4 : Int} {μ : cM} (h : cOK B τ μ.2) : hR (hf B) (hp B τ) (f_X6_bodies_166 rc (cad B 5 0) x1 x4 (cw B μ)) (h_X6_bodies_166 rc' x1 x4 μ) := by
  unfold f_X6_bodies_166 h_X6_bodies_166
  refine hx_if ?_ ?_
  · exact (eh_X6_bodies_181 hrc h)
  · exact (eh_X6_bodies_181 hrc h)
noncomputable def h_X6_bodies_126_b (rc' : Nat → List Int → cM → Option cO) (x1 x3 x4 x5 : Int) (μ : cM) : Option ((Int × cM) ⊕ cO) :=
  if x1 = (-10) then
    (h_X6_bodies_166 rc' x1 x4 μ).map (fun r => (.inr r))
  else
    hci (h_X5_take 0 124 μ) fun v1 μ2 =>
    if v1 = 0 then
      (h_X6_bodies_166 rc' x1 x4 μ2).map (fun r => (.inr r))
    else
      hcrT (rc' 1 [x4, (zadd x3 1)] μ2) (fun n a μ4 => some (.inr (n + 1, zr a, μ4))) fun v3 μ4 =>
      (hup μ4 (zpf μ4.2 1104 x5 v3)).bind fun μ5 =>
      (zgf μ5.2 1104 x5).bind fun v6 =>
      some (.inl (v6, μ5))
theorem eh_X6_bodies_126_b {B : Nat} {τ : zM} {rc : Nat → List Int → zM → Option zO} {rc' : Nat → List Int → cM → Option cO} (hrc : HRC_G_X6_bodies B τ rc rc') {x1 x3 x4 x5 : Int} {μ : cM} (h : cOK B τ μ.2) : hR (Sum.map (fun s => (s.1, cw B s.2)) (hf B)) (Sum.elim (fun s : Int × cM => cOK B τ s.2.2) (hp B τ)) (f_X6_bodies_126_b rc (cad B 5 0) x1 x3 x4 x5 (cw B μ)) (h_X6_bodies_126_b rc' x1 x3 x4 x5 μ) := by
  unfold f_X6_bodies_126_b h_X6_bodies_126_b
  refine hx_if ?_ ?_
  · exact hx_map (eh_X6_bodies_166 hrc h) (fun r => rfl) (fun r q => q)
  · refine hx_is h ⟨rfl, by decide, by decide⟩ ?_
    refine hx_ci (eh_X5_take h) (fun v1 μ2 h => ?_)
    refine hx_if ?_ ?_
    · exact hx_map (eh_X6_bodies_166 hrc h) (fun r => rfl) (fun r q => q)
    · refine hx_crT (hrc.2.1 h) (fun n a μ4 h => hx_some rfl h) (fun v3 μ4 h => ?_)
      refine he_pd h 1104 ⟨by decide, by decide⟩ rfl (fun μ5 h => ?_)
      refine he_gd 1104 rfl (fun v6 => ?_)
      first | exact hx_some rfl h | exact hx_some rfl trivial
noncomputable def h_X6_bodies_126 (rc' : Nat → List Int → cM → Option cO) (x1 x3 x4 x5 : Int) (μ : cM) : Option cO :=
  zloop (fun s : Int × cM => h_X6_bodies_126_b rc' x1 x3 x4 s.1 s.2) (x5, μ)
theorem eh_X6_bodies_126 {B : Nat} {τ : zM} {rc : Nat → List Int → zM → Option zO} {rc' : Nat → List Int → cM → Option cO} (hrc : HRC_G_X6_bodies B τ rc rc') {x1 x3 x4 x5 : Int} {μ : cM} (h : cOK B τ μ.2) : hR (hf B) (hp B τ) (f_X6_bodies_126 rc (cad B 5 0) x1 x3 x4 x5 (cw B μ)) (h_X6_bodies_126 rc' x1 x3 x4 x5 μ) := by
  unfold f_X6_bodies_126 h_X6_bodies_126
  refine hx_loop (φ := (fun s => (s.1, cw B s.2))) (Ps := (fun s : Int × cM => cOK B τ s.2.2)) (s := (x5, μ)) h (fun s hs => ?_)
  exact eh_X6_bodies_126_b hrc hs
noncomputable def h_X6_bodies_92 (rc' : Nat → List Int → cM → Option cO) (x1 x3 x4 t0 : Int) (μ : cM) : Option cO :=
  hcvT (h_X5_need t0 μ) (fun n a μ1 => some (n + 1, zr a, μ1)) fun μ1 =>
  zlet (hG μ1 502 0) fun v2 =>
  hwl (hS μ1 502 0 (zadd v2 1)) fun μ3 =>
  hcrT (rc' 1 [x4, (zadd x3 1)] μ3) (fun n a μ5 => some (n + 1, zr a, μ5)) fun v4 μ5 =>
  (hup μ5 (zpf μ5.2 1103 x4 v4)).bind fun μ6 =>
  (zgf μ6.2 1103 x4).bind fun v7 =>
  h_X6_bodies_126 rc' x1 x3 x4 v7 μ6
theorem eh_X6_bodies_92 {B : Nat} {τ : zM} {rc : Nat → List Int → zM → Option zO} {rc' : Nat → List Int → cM → Option cO} (hrc : HRC_G_X6_bodies B τ rc rc') {x1 x3 x4 t0 : Int} {μ : cM} (h : cOK B τ μ.2) : hR (hf B) (hp B τ) (f_X6_bodies_92 rc (cad B 5 0) x1 x3 x4 t0 (cw B μ)) (h_X6_bodies_92 rc' x1 x3 x4 t0 μ) := by
  unfold f_X6_bodies_92 h_X6_bodies_92
  refine hx_cvT (eh_X5_need h) (fun n a μ1 h => hx_some rfl h) (fun μ1 h => ?_)
  refine he_gs h (f := 502) (c := 5) (o := 0) ⟨rfl, by decide, by decide⟩ rfl (fun v2 => ?_)
  refine he_ps h (f := 502) (c := 5) (o := 0) ⟨rfl, by decide, by decide⟩ rfl (fun μ3 h => ?_)
  refine hx_crT (hrc.2.1 h) (fun n a μ5 h => hx_some rfl h) (fun v4 μ5 h => ?_)
  refine he_pd h 1103 ⟨by decide, by decide⟩ rfl (fun μ6 h => ?_)
  refine he_gd 1103 rfl (fun v7 => ?_)
  exact (eh_X6_bodies_126 hrc h)
noncomputable def h_X6_bodies_91 (rc' : Nat → List Int → cM → Option cO) (x1 x3 x4 : Int) (μ : cM) : Option cO :=
  h_X6_bodies_92 rc' x1 x3 x4 0 μ
theorem eh_X6_bodies_91 {B : Nat} {τ : zM} {rc : Nat → List Int → zM → Option zO} {rc' : Nat → List Int → cM → Option cO} (hrc : HRC_G_X6_bodies B τ rc rc') {x1 x3 x4 : Int} {μ : cM} (h : cOK B τ μ.2) : hR (hf B) (hp B τ) (f_X6_bodies_91 rc (cad B 5 0) x1 x3 x4 (cw B μ)) (h_X6_bodies_91 rc' x1 x3 x4 μ) := by
  unfold f_X6_bodies_91 h_X6_bodies_91
  exact (eh_X6_bodies_92 hrc h)
noncomputable def h_X6_bodies_84 (rc' : Nat → List Int → cM → Option cO) (x1 x3 x4 t0 t1 : Int) (μ : cM) : Option cO :=
  if t1 ≠ t0 then
    h_X6_bodies_91 rc' x1 x3 x4 μ
  else
    h_X6_bodies_92 rc' x1 x3 x4 1 μ
theorem eh_X6_bodies_84 {B : Nat} {τ : zM} {rc : Nat → List Int → zM → Option zO} {rc' : Nat → List Int → cM → Option cO} (hrc : HRC_G_X6_bodies B τ rc rc') {x1 x3 x4 t0 t1 : Int} {μ : cM} (h : cOK B τ μ.2) : hR (hf B) (hp B τ) (f_X6_bodies_84 rc (cad B 5 0) x1 x3 x4 t0 t1 (cw B μ)) (h_X6_bodies_84 rc' x1 x3 x4 t0 t1 μ) := by
  unfold f_X6_bodies_84 h_X6_bodies_84
  refine hx_if ?_ ?_
  · exact (eh_X6_bodies_91 hrc h)
  · exact (eh_X6_bodies_92 hrc h)
noncomputable def h_X6_bodies_60 (rc' : Nat → List Int → cM → Option cO) (x1 x3 x4 : Int) (μ : cM) : Option cO :=
  if 6 ≤ x3 then
    h_X6_bodies_91 rc' x1 x3 x4 μ
  else
    hci (h_X5_now 0 μ) fun v1 μ2 =>
    if x1 ≠ (-10) then
      h_X6_bodies_84 rc' x1 x3 x4 91 v1 μ2
    else
      h_X6_bodies_84 rc' x1 x3 x4 60 v1 μ2
theorem eh_X6_bodies_60 {B : Nat} {τ : zM} {rc : Nat → List Int → zM → Option zO} {rc' : Nat → List Int → cM → Option cO} (hrc : HRC_G_X6_bodies B τ rc rc') {x1 x3 x4 : Int} {μ : cM} (h : cOK B τ μ.2) : hR (hf B) (hp B τ) (f_X6_bodies_60 rc (cad B 5 0) x1 x3 x4 (cw B μ)) (h_X6_bodies_60 rc' x1 x3 x4 μ) := by
  unfold f_X6_bodies_60 h_X6_bodies_60
  refine hx_if ?_ ?_
  · exact (eh_X6_bodies_91 hrc h)
  · refine hx_is h ⟨rfl, by decide, by decide⟩ ?_
    refine hx_ci (eh_X5_now h) (fun v1 μ2 h => ?_)
    refine hx_if ?_ ?_
    · exact (eh_X6_bodies_84 hrc h)
    · exact (eh_X6_bodies_84 hrc h)
noncomputable def h_X6_bodies_43 (rc' : Nat → List Int → cM → Option cO) (x1 x3 x4 : Int) (μ : cM) : Option cO :=
  if x1 ≠ (-9) then
    h_X6_bodies_60 rc' x1 x3 x4 μ
  else
    zlet (hG μ 502 0) fun v1 =>
    hwl (hS μ 502 0 (zadd v1 1)) fun μ2 =>
    h_X6_bodies_60 rc' x1 x3 x4 μ2
theorem eh_X6_bodies_43 {B : Nat} {τ : zM} {rc : Nat → List Int → zM → Option zO} {rc' : Nat → List Int → cM → Option cO} (hrc : HRC_G_X6_bodies B τ rc rc') {x1 x3 x4 : Int} {μ : cM} (h : cOK B τ μ.2) : hR (hf B) (hp B τ) (f_X6_bodies_43 rc (cad B 5 0) x1 x3 x4 (cw B μ)) (h_X6_bodies_43 rc' x1 x3 x4 μ) := by
  unfold f_X6_bodies_43 h_X6_bodies_43
  refine hx_if ?_ ?_
  · exact (eh_X6_bodies_60 hrc h)
  · refine he_gs h (f := 502) (c := 5) (o := 0) ⟨rfl, by decide, by decide⟩ rfl (fun v1 => ?_)
    refine he_ps h (f := 502) (c := 5) (o := 0) ⟨rfl, by decide, by decide⟩ rfl (fun μ2 h => ?_)
    exact (eh_X6_bodies_60 hrc h)
noncomputable def h_X6_bodies_40 (rc' : Nat → List Int → cM → Option cO) (x1 x3 x4 t0 : Int) (μ : cM) : Option cO :=
  hcvT (h_X5_need t0 μ) (fun n a μ1 => some (n + 1, zr a, μ1)) fun μ1 =>
  h_X6_bodies_43 rc' x1 x3 x4 μ1
theorem eh_X6_bodies_40 {B : Nat} {τ : zM} {rc : Nat → List Int → zM → Option zO} {rc' : Nat → List Int → cM → Option cO} (hrc : HRC_G_X6_bodies B τ rc rc') {x1 x3 x4 t0 : Int} {μ : cM} (h : cOK B τ μ.2) : hR (hf B) (hp B τ) (f_X6_bodies_40 rc (cad B 5 0) x1 x3 x4 t0 (cw B μ)) (h_X6_bodies_40 rc' x1 x3 x4 t0 μ) := by
  unfold f_X6_bodies_40 h_X6_bodies_40
  refine hx_cvT (eh_X5_need h) (fun n a μ1 h => hx_some rfl h) (fun μ1 h => ?_)
  exact (eh_X6_bodies_43 hrc h)
noncomputable def h_X6_bodies (rc' : Nat → List Int → cM → Option cO) (x1 x2 x3 : Int) (μ : cM) : Option cO :=
  hcr (h_X6_fresh x1 x2 μ) fun v1 μ2 =>
  if x1 = (-10) then
    zgd (zis μ2.2 12 v1) <|
    hcr (h_X11_around v1 (-10) μ2) fun v3 μ4 =>
    if v3 ≠ (-1) then
      h_X6_bodies_40 rc' x1 x3 v1 0 μ4
    else
      h_X6_bodies_40 rc' x1 x3 v1 1 μ4
  else
    hcvT (h_X6_tally v1 μ2) (fun n a μ5 => some (n + 1, zr a, μ5)) fun μ5 =>
    h_X6_bodies_43 rc' x1 x3 v1 μ5
theorem eh_X6_bodies {B : Nat} {τ : zM} {rc : Nat → List Int → zM → Option zO} {rc' : Nat → List Int → cM → Option cO} (hrc : HRC_G_X6_bodies B τ rc rc') {x1 x2 x3 : Int} {μ : cM} (h : cOK B τ μ.2) : hR (hf B) (hp B τ) (f_X6_bodies rc (cad B 5 0) x1 x2 x3 (cw B μ)) (h_X6_bodies rc' x1 x2 x3 μ) := by
  unfold f_X6_bodies h_X6_bodies
  refine hx_is h ⟨rfl, by decide, by decide⟩ ?_
  refine hx_cr (eh_X6_fresh h) (fun v1 μ2 h => ?_)
  refine hx_if ?_ ?_
  · refine hx_gd ?_
    refine hx_cr (eh_X11_around h) (fun v3 μ4 h => ?_)
    refine hx_if ?_ ?_
    · exact (eh_X6_bodies_40 hrc h)
    · exact (eh_X6_bodies_40 hrc h)
  · refine hx_is h ⟨rfl, by decide, by decide⟩ ?_
    refine hx_cvT (eh_X6_tally h) (fun n a μ5 h => hx_some rfl h) (fun μ5 h => ?_)
    exact (eh_X6_bodies_43 hrc h)
noncomputable def h_X6_body_97 (rc' : Nat → List Int → cM → Option cO) (x3 : Int) (μ : cM) : Option cO :=
  some (0, zr x3, μ)
theorem eh_X6_body_97 {B : Nat} {τ : zM} {rc : Nat → List Int → zM → Option zO} {rc' : Nat → List Int → cM → Option cO} (hrc : HRC_G_X6_bodies B τ rc rc') {x3 : Int} {μ : cM} (h : cOK B τ μ.2) : hR (hf B) (hp B τ) (f_X6_body_97 rc x3 (cw B μ)) (h_X6_body_97 rc' x3 μ) := by
  unfold f_X6_body_97 h_X6_body_97
  first | exact hx_some rfl h | exact hx_some rfl trivial
noncomputable def h_X6_body_84 (rc' : Nat → List Int → cM → Option cO) (x1 x2 x3 x6 : Int) (μ : cM) : Option ((Int × Int × cM) ⊕ cO) :=
  hci (h_X5_take 0 59 μ) fun v1 μ2 =>
  if v1 ≠ 0 then
    some (.inl (x3, x6, μ2))
  else
    (h_X6_body_97 rc' x3 μ2).map (fun r => (.inr r))
theorem eh_X6_body_84 {B : Nat} {τ : zM} {rc : Nat → List Int → zM → Option zO} {rc' : Nat → List Int → cM → Option cO} (hrc : HRC_G_X6_bodies B τ rc rc') {x1 x2 x3 x6 : Int} {μ : cM} (h : cOK B τ μ.2) : hR (Sum.map (fun s => (s.1, s.2.1, cw B s.2.2)) (hf B)) (Sum.elim (fun s : Int × Int × cM => cOK B τ s.2.2.2) (hp B τ)) (f_X6_body_84 rc (cad B 5 0) x1 x2 x3 x6 (cw B μ)) (h_X6_body_84 rc' x1 x2 x3 x6 μ) := by
  unfold f_X6_body_84 h_X6_body_84
  refine hx_is h ⟨rfl, by decide, by decide⟩ ?_
  refine hx_ci (eh_X5_take h) (fun v1 μ2 h => ?_)
  refine hx_if ?_ ?_
  · first | exact hx_some rfl h | exact hx_some rfl trivial
  · exact hx_map (eh_X6_body_97 hrc h) (fun r => rfl) (fun r q => q)
noncomputable def h_X6_body_67 (rc' : Nat → List Int → cM → Option cO) (x1 x2 x3 x4 x6 : Int) (μ : cM) : Option ((Int × Int × cM) ⊕ cO) :=
  if x3 ≠ (-1) then
    (hup μ (zpf μ.2 1101 x4 x6)).bind fun μ1 =>
    h_X6_body_84 rc' x1 x2 x3 x6 μ1
  else
    h_X6_body_84 rc' x1 x2 x6 x6 μ
theorem eh_X6_body_67 {B : Nat} {τ : zM} {rc : Nat → List Int → zM → Option zO} {rc' : Nat → List Int → cM → Option cO} (hrc : HRC_G_X6_bodies B τ rc rc') {x1 x2 x3 x4 x6 : Int} {μ : cM} (h : cOK B τ μ.2) : hR (Sum.map (fun s => (s.1, s.2.1, cw B s.2.2)) (hf B)) (Sum.elim (fun s : Int × Int × cM => cOK B τ s.2.2.2) (hp B τ)) (f_X6_body_67 rc (cad B 5 0) x1 x2 x3 x4 x6 (cw B μ)) (h_X6_body_67 rc' x1 x2 x3 x4 x6 μ) := by
  unfold f_X6_body_67 h_X6_body_67
  refine hx_if ?_ ?_
  · refine he_pd h 1101 ⟨by decide, by decide⟩ rfl (fun μ1 h => ?_)
    exact (eh_X6_body_84 hrc h)
  · exact (eh_X6_body_84 hrc h)
noncomputable def h_X6_body_61 (rc' : Nat → List Int → cM → Option cO) (x1 x2 x3 x4 x5 x6 x7 : Int) (μ : cM) : Option ((Int × cM) ⊕ ((Int × Int × cM) ⊕ cO)) :=
  zlet (zadd x7 1) fun y1 =>
  some (.inl (y1, μ))
theorem eh_X6_body_61 {B : Nat} {τ : zM} {rc : Nat → List Int → zM → Option zO} {rc' : Nat → List Int → cM → Option cO} (hrc : HRC_G_X6_bodies B τ rc rc') {x1 x2 x3 x4 x5 x6 x7 : Int} {μ : cM} (h : cOK B τ μ.2) : hR (Sum.map (fun s => (s.1, cw B s.2)) (Sum.map (fun s => (s.1, s.2.1, cw B s.2.2)) (hf B))) (Sum.elim (fun s : Int × cM => cOK B τ s.2.2) (Sum.elim (fun s : Int × Int × cM => cOK B τ s.2.2.2) (hp B τ))) (f_X6_body_61 rc (cad B 5 0) x1 x2 x3 x4 x5 x6 x7 (cw B μ)) (h_X6_body_61 rc' x1 x2 x3 x4 x5 x6 x7 μ) := by
  unfold f_X6_body_61 h_X6_body_61
  refine hx_let (fun y1 => ?_)
  first | exact hx_some rfl h | exact hx_some rfl trivial
noncomputable def h_X6_body_31_b (rc' : Nat → List Int → cM → Option cO) (x1 x2 x3 x4 x5 x6 x7 : Int) (μ : cM) : Option ((Int × cM) ⊕ ((Int × Int × cM) ⊕ cO)) :=
  if 8 ≤ x7 then
    (h_X6_body_67 rc' x1 x2 x3 x4 x6 μ).map (fun r => (.inr r))
  else
    if (zand (zshr x5 x7) 1) ≠ 1 then
      h_X6_body_61 rc' x1 x2 x3 x4 x5 x6 x7 μ
    else
      zlet (hG μ 607 0) fun v1 =>
      (hnn v1).bind fun q1 =>
      (hpr μ 404 v1 x7 x6).bind fun μ3 =>
      h_X6_body_61 rc' x1 x2 x3 x4 x5 x6 x7 μ3
theorem eh_X6_body_31_b {B : Nat} {τ : zM} {rc : Nat → List Int → zM → Option zO} {rc' : Nat → List Int → cM → Option cO} (hrc : HRC_G_X6_bodies B τ rc rc') {x1 x2 x3 x4 x5 x6 x7 : Int} {μ : cM} (h : cOK B τ μ.2) : hR (Sum.map (fun s => (s.1, cw B s.2)) (Sum.map (fun s => (s.1, s.2.1, cw B s.2.2)) (hf B))) (Sum.elim (fun s : Int × cM => cOK B τ s.2.2) (Sum.elim (fun s : Int × Int × cM => cOK B τ s.2.2.2) (hp B τ))) (f_X6_body_31_b rc (cad B 5 0) x1 x2 x3 x4 x5 x6 x7 (cw B μ)) (h_X6_body_31_b rc' x1 x2 x3 x4 x5 x6 x7 μ) := by
  unfold f_X6_body_31_b h_X6_body_31_b
  refine hx_if ?_ ?_
  · exact hx_map (eh_X6_body_67 hrc h) (fun r => rfl) (fun r q => q)
  · refine hx_if ?_ ?_
    · exact (eh_X6_body_61 hrc h)
    · refine he_g7 h (fun v1 => ?_)
      refine hx_nnG (fun hn => ?_)
      rw [radr_ne hn]
      refine he_gA h (f := 404) (c := 4) (o := v1) ⟨rfl, by decide⟩ rfl ?_
      refine he_pr h (f := 404) (o := v1) ⟨⟨rfl, by decide, by decide⟩, rfl⟩ (fun μ3 h => ?_)
      exact (eh_X6_body_61 hrc h)
noncomputable def h_X6_body_31 (rc' : Nat → List Int → cM → Option cO) (x1 x2 x3 x4 x5 x6 x7 : Int) (μ : cM) : Option ((Int × Int × cM) ⊕ cO) :=
  zloop (fun s : Int × cM => h_X6_body_31_b rc' x1 x2 x3 x4 x5 x6 s.1 s.2) (x7, μ)
theorem eh_X6_body_31 {B : Nat} {τ : zM} {rc : Nat → List Int → zM → Option zO} {rc' : Nat → List Int → cM → Option cO} (hrc : HRC_G_X6_bodies B τ rc rc') {x1 x2 x3 x4 x5 x6 x7 : Int} {μ : cM} (h : cOK B τ μ.2) : hR (Sum.map (fun s => (s.1, s.2.1, cw B s.2.2)) (hf B)) (Sum.elim (fun s : Int × Int × cM => cOK B τ s.2.2.2) (hp B τ)) (f_X6_body_31 rc (cad B 5 0) x1 x2 x3 x4 x5 x6 x7 (cw B μ)) (h_X6_body_31 rc' x1 x2 x3 x4 x5 x6 x7 μ) := by
  unfold f_X6_body_31 h_X6_body_31
  refine hx_loop (φ := (fun s => (s.1, cw B s.2))) (Ps := (fun s : Int × cM => cOK B τ s.2.2)) (s := (x7, μ)) h (fun s hs => ?_)
  exact eh_X6_body_31_b hrc hs
noncomputable def h_X6_body_22 (rc' : Nat → List Int → cM → Option cO) (x1 x2 x3 x4 x5 t0 t1 : Int) (μ : cM) : Option ((Int × Int × cM) ⊕ cO) :=
  hcrT (rc' 2 [t1, t0, x2] μ) (fun n a μ2 => some (.inr (n + 1, zr a, μ2))) fun v1 μ2 =>
  h_X6_body_31 rc' x1 x2 x3 x4 x5 v1 0 μ2
theorem eh_X6_body_22 {B : Nat} {τ : zM} {rc : Nat → List Int → zM → Option zO} {rc' : Nat → List Int → cM → Option cO} (hrc : HRC_G_X6_bodies B τ rc rc') {x1 x2 x3 x4 x5 t0 t1 : Int} {μ : cM} (h : cOK B τ μ.2) : hR (Sum.map (fun s => (s.1, s.2.1, cw B s.2.2)) (hf B)) (Sum.elim (fun s : Int × Int × cM => cOK B τ s.2.2.2) (hp B τ)) (f_X6_body_22 rc (cad B 5 0) x1 x2 x3 x4 x5 t0 t1 (cad B 5 0) (cw B μ)) (h_X6_body_22 rc' x1 x2 x3 x4 x5 t0 t1 μ) := by
  unfold f_X6_body_22 h_X6_body_22
  refine hx_crT (hrc.2.2.1 h) (fun n a μ2 h => hx_some rfl h) (fun v1 μ2 h => ?_)
  exact (eh_X6_body_31 hrc h)
noncomputable def h_X6_body_5_b (rc' : Nat → List Int → cM → Option cO) (x1 x2 x3 x4 : Int) (μ : cM) : Option ((Int × Int × cM) ⊕ cO) :=
  hciT (h_X6_labels μ) (fun n a μ2 => some (.inr (n + 1, zr a, μ2))) fun v1 μ2 =>
  if x3 ≠ (-1) then
    h_X6_body_22 rc' x1 x2 x3 x4 v1 0 x1 μ2
  else
    h_X6_body_22 rc' x1 x2 x3 x4 v1 1 x1 μ2
theorem eh_X6_body_5_b {B : Nat} {τ : zM} {rc : Nat → List Int → zM → Option zO} {rc' : Nat → List Int → cM → Option cO} (hrc : HRC_G_X6_bodies B τ rc rc') {x1 x2 x3 x4 : Int} {μ : cM} (h : cOK B τ μ.2) : hR (Sum.map (fun s => (s.1, s.2.1, cw B s.2.2)) (hf B)) (Sum.elim (fun s : Int × Int × cM => cOK B τ s.2.2.2) (hp B τ)) (f_X6_body_5_b rc (cad B 5 0) x1 x2 x3 x4 (cw B μ)) (h_X6_body_5_b rc' x1 x2 x3 x4 μ) := by
  unfold f_X6_body_5_b h_X6_body_5_b
  refine hx_is h ⟨rfl, by decide, by decide⟩ ?_
  refine hx_ciT (eh_X6_labels h) (fun n a μ2 h => hx_some rfl h) (fun v1 μ2 h => ?_)
  refine hx_if ?_ ?_
  · exact (eh_X6_body_22 hrc h)
  · exact (eh_X6_body_22 hrc h)
noncomputable def h_X6_body_5 (rc' : Nat → List Int → cM → Option cO) (x1 x2 x3 x4 : Int) (μ : cM) : Option cO :=
  zloop (fun s : Int × Int × cM => h_X6_body_5_b rc' x1 x2 s.1 s.2.1 s.2.2) (x3, x4, μ)
theorem eh_X6_body_5 {B : Nat} {τ : zM} {rc : Nat → List Int → zM → Option zO} {rc' : Nat → List Int → cM → Option cO} (hrc : HRC_G_X6_bodies B τ rc rc') {x1 x2 x3 x4 : Int} {μ : cM} (h : cOK B τ μ.2) : hR (hf B) (hp B τ) (f_X6_body_5 rc (cad B 5 0) x1 x2 x3 x4 (cw B μ)) (h_X6_body_5 rc' x1 x2 x3 x4 μ) := by
  unfold f_X6_body_5 h_X6_body_5
  refine hx_loop (φ := (fun s => (s.1, s.2.1, cw B s.2.2))) (Ps := (fun s : Int × Int × cM => cOK B τ s.2.2.2)) (s := (x3, x4, μ)) h (fun s hs => ?_)
  exact eh_X6_body_5_b hrc hs
noncomputable def h_X6_body (rc' : Nat → List Int → cM → Option cO) (x1 x2 : Int) (μ : cM) : Option cO :=
  h_X6_body_5 rc' x1 x2 (-1) (-1) μ
theorem eh_X6_body {B : Nat} {τ : zM} {rc : Nat → List Int → zM → Option zO} {rc' : Nat → List Int → cM → Option cO} (hrc : HRC_G_X6_bodies B τ rc rc') {x1 x2 : Int} {μ : cM} (h : cOK B τ μ.2) : hR (hf B) (hp B τ) (f_X6_body rc (cad B 5 0) x1 x2 (cw B μ)) (h_X6_body rc' x1 x2 μ) := by
  unfold f_X6_body h_X6_body
  exact (eh_X6_body_5 hrc h)
noncomputable def h_X6_statement_86 (rc' : Nat → List Int → cM → Option cO) (x1 x2 : Int) (μ : cM) : Option cO :=
  hcrT (h_X6_leap x1 x2 μ) (fun n a μ2 => some (n + 1, zr a, μ2)) fun v1 μ2 =>
  some (0, zr v1, μ2)
theorem eh_X6_statement_86 {B : Nat} {τ : zM} {rc : Nat → List Int → zM → Option zO} {rc' : Nat → List Int → cM → Option cO} (hrc : HRC_G_X6_bodies B τ rc rc') {x1 x2 : Int} {μ : cM} (h : cOK B τ μ.2) : hR (hf B) (hp B τ) (f_X6_statement_86 rc (cad B 5 0) x1 x2 (cw B μ)) (h_X6_statement_86 rc' x1 x2 μ) := by
  unfold f_X6_statement_86 h_X6_statement_86
  refine hx_is h ⟨rfl, by decide, by decide⟩ ?_
  refine hx_crT (eh_X6_leap h) (fun n a μ2 h => hx_some rfl h) (fun v1 μ2 h => ?_)
  first | exact hx_some rfl h | exact hx_some rfl trivial
noncomputable def h_X6_statement (rc' : Nat → List Int → cM → Option cO) (x1 x2 x3 : Int) (μ : cM) : Option cO :=
  hci (h_X5_now 0 μ) fun v1 μ2 =>
  if v1 = 42 then
    hcrT (rc' 0 [(-9), x1, x3] μ2) (fun n a μ4 => some (n + 1, zr a, μ4)) fun v3 μ4 =>
    some (0, zr v3, μ4)
  else
    if v1 = 46 then
      h_X6_statement_86 rc' x1 x2 μ2
    else
      if v1 = 60 then
        hcrT (rc' 0 [(-10), x1, x3] μ2) (fun n a μ6 => some (n + 1, zr a, μ6)) fun v5 μ6 =>
        some (0, zr v5, μ6)
      else
        if v1 = 91 then
          hcrT (rc' 0 [(-8), x1, x3] μ2) (fun n a μ8 => some (n + 1, zr a, μ8)) fun v7 μ8 =>
          some (0, zr v7, μ8)
        else
          if v1 = 94 then
            h_X6_statement_86 rc' x1 x2 μ2
          else
            hcrT (h_X6_basic x1 x2 μ2) (fun n a μ10 => some (n + 1, zr a, μ10)) fun v9 μ10 =>
            some (0, zr v9, μ10)
theorem eh_X6_statement {B : Nat} {τ : zM} {rc : Nat → List Int → zM → Option zO} {rc' : Nat → List Int → cM → Option cO} (hrc : HRC_G_X6_bodies B τ rc rc') {x1 x2 x3 : Int} {μ : cM} (h : cOK B τ μ.2) : hR (hf B) (hp B τ) (f_X6_statement rc (cad B 5 0) x1 x2 x3 (cw B μ)) (h_X6_statement rc' x1 x2 x3 μ) := by
  unfold f_X6_statement h_X6_statement
  refine hx_is h ⟨rfl, by decide, by decide⟩ ?_
  refine hx_ci (eh_X5_now h) (fun v1 μ2 h => ?_)
  refine hx_if ?_ ?_
  · refine hx_crT (hrc.1 h) (fun n a μ4 h => hx_some rfl h) (fun v3 μ4 h => ?_)
    first | exact hx_some rfl h | exact hx_some rfl trivial
  · refine hx_if ?_ ?_
    · exact (eh_X6_statement_86 hrc h)
    · refine hx_if ?_ ?_
      · refine hx_crT (hrc.1 h) (fun n a μ6 h => hx_some rfl h) (fun v5 μ6 h => ?_)
        first | exact hx_some rfl h | exact hx_some rfl trivial
      · refine hx_if ?_ ?_
        · refine hx_crT (hrc.1 h) (fun n a μ8 h => hx_some rfl h) (fun v7 μ8 h => ?_)
          first | exact hx_some rfl h | exact hx_some rfl trivial
        · refine hx_if ?_ ?_
          · exact (eh_X6_statement_86 hrc h)
          · refine hx_is h ⟨rfl, by decide, by decide⟩ ?_
            refine hx_crT (eh_X6_basic h) (fun n a μ10 h => hx_some rfl h) (fun v9 μ10 h => ?_)
            first | exact hx_some rfl h | exact hx_some rfl trivial
noncomputable def h_G_X6_bodies : Nat → Nat → List Int → cM → Option cO
  | 0, _, _, _ => none
  | d + 1, tg, as, μ => match tg, as with
    | 0, [x1, x2, x3] => h_X6_bodies (h_G_X6_bodies d) x1 x2 x3 μ
    | 1, [x1, x2] => h_X6_body (h_G_X6_bodies d) x1 x2 μ
    | 2, [x1, x2, x3] => h_X6_statement (h_G_X6_bodies d) x1 x2 x3 μ
    | _, _ => none
theorem eh_G_X6_bodies (B : Nat) (τ : zM) : ∀ d : Nat, HRC_G_X6_bodies B τ (f_G_X6_bodies d) (h_G_X6_bodies d)
  | 0 => ⟨(fun _ => hR_none _ _), (fun _ => hR_none _ _), (fun _ => hR_none _ _), trivial⟩
  | d + 1 => ⟨(fun h => eh_X6_bodies (eh_G_X6_bodies B τ d) h), (fun h => eh_X6_body (eh_G_X6_bodies B τ d) h), (fun h => eh_X6_statement (eh_G_X6_bodies B τ d) h), trivial⟩
noncomputable def h_X11_lead_142 (μ : cM) : Option cO :=
  (hup μ (znX μ.2 51)).bind fun μ1 =>
  zgd (zis μ1.2 51 (↑(zN μ.2) : Int)) <|
  some (1, zr (↑(zN μ.2) : Int), μ1)
theorem eh_X11_lead_142 {B : Nat} {τ : zM} {μ : cM} (h : cOK B τ μ.2) : hR (hf B) (hp B τ) (f_X11_lead_142  (cw B μ)) (h_X11_lead_142  μ) := by
  unfold f_X11_lead_142 h_X11_lead_142
  refine he_nX h (fun μ1 h => ?_)
  refine hx_gd ?_
  first | exact hx_some rfl h | exact hx_some rfl trivial
noncomputable def h_X11_lead_136 (x2 x3 x4 : Int) (μ : cM) : Option ((Int × Int × Int × cM) ⊕ cO) :=
  zlet (zadd x4 1) fun y1 =>
  some (.inl (x2, x3, y1, μ))
theorem eh_X11_lead_136 {B : Nat} {τ : zM} {x2 x3 x4 : Int} {μ : cM} (h : cOK B τ μ.2) : hR (Sum.map (fun s => (s.1, s.2.1, s.2.2.1, cw B s.2.2.2)) (hf B)) (Sum.elim (fun s : Int × Int × Int × cM => cOK B τ s.2.2.2.2) (hp B τ)) (f_X11_lead_136 x2 x3 x4 (cw B μ)) (h_X11_lead_136 x2 x3 x4 μ) := by
  unfold f_X11_lead_136 h_X11_lead_136
  refine hx_let (fun y1 => ?_)
  first | exact hx_some rfl h | exact hx_some rfl trivial
noncomputable def h_X11_lead_129 (x2 : Int) (μ : cM) : Option cO :=
  some (0, zr x2, μ)
theorem eh_X11_lead_129 {B : Nat} {τ : zM} {x2 : Int} {μ : cM} (h : cOK B τ μ.2) : hR (hf B) (hp B τ) (f_X11_lead_129 x2 (cw B μ)) (h_X11_lead_129 x2 μ) := by
  unfold f_X11_lead_129 h_X11_lead_129
  first | exact hx_some rfl h | exact hx_some rfl trivial
noncomputable def h_X11_lead_77 (x3 x4 t0 : Int) (μ : cM) : Option ((Int × Int × Int × cM) ⊕ cO) :=
  h_X11_lead_136 t0 x3 x4 μ
theorem eh_X11_lead_77 {B : Nat} {τ : zM} {x3 x4 t0 : Int} {μ : cM} (h : cOK B τ μ.2) : hR (Sum.map (fun s => (s.1, s.2.1, s.2.2.1, cw B s.2.2.2)) (hf B)) (Sum.elim (fun s : Int × Int × Int × cM => cOK B τ s.2.2.2.2) (hp B τ)) (f_X11_lead_77 x3 x4 t0 (cw B μ)) (h_X11_lead_77 x3 x4 t0 μ) := by
  unfold f_X11_lead_77 h_X11_lead_77
  exact (eh_X11_lead_136 h)
noncomputable def h_X11_lead_63 (x2 x4 x5 t0 : Int) (μ : cM) : Option ((Int × Int × Int × cM) ⊕ cO) :=
  if t0 = 0 then
    (zgf μ.2 1101 x2).bind fun v1 =>
    h_X11_lead_77 t0 x4 v1 μ
  else
    h_X11_lead_77 t0 x4 x5 μ
theorem eh_X11_lead_63 {B : Nat} {τ : zM} {x2 x4 x5 t0 : Int} {μ : cM} (h : cOK B τ μ.2) : hR (Sum.map (fun s => (s.1, s.2.1, s.2.2.1, cw B s.2.2.2)) (hf B)) (Sum.elim (fun s : Int × Int × Int × cM => cOK B τ s.2.2.2.2) (hp B τ)) (f_X11_lead_63 x2 x4 x5 t0 (cw B μ)) (h_X11_lead_63 x2 x4 x5 t0 μ) := by
  unfold f_X11_lead_63 h_X11_lead_63
  refine hx_if ?_ ?_
  · refine he_gd 1101 rfl (fun v1 => ?_)
    exact (eh_X11_lead_77 h)
  · exact (eh_X11_lead_77 h)
noncomputable def h_X11_lead_51 (x2 x4 x5 : Int) (μ : cM) : Option ((Int × Int × Int × cM) ⊕ cO) :=
  (zgf μ.2 1101 x2).bind fun v1 =>
  if v1 ≠ (-1) then
    h_X11_lead_63 x2 x4 x5 0 μ
  else
    h_X11_lead_63 x2 x4 x5 1 μ
theorem eh_X11_lead_51 {B : Nat} {τ : zM} {x2 x4 x5 : Int} {μ : cM} (h : cOK B τ μ.2) : hR (Sum.map (fun s => (s.1, s.2.1, s.2.2.1, cw B s.2.2.2)) (hf B)) (Sum.elim (fun s : Int × Int × Int × cM => cOK B τ s.2.2.2.2) (hp B τ)) (f_X11_lead_51 x2 x4 x5 (cw B μ)) (h_X11_lead_51 x2 x4 x5 μ) := by
  unfold f_X11_lead_51 h_X11_lead_51
  refine he_gd 1101 rfl (fun v1 => ?_)
  refine hx_if ?_ ?_
  · exact (eh_X11_lead_63 h)
  · exact (eh_X11_lead_63 h)
noncomputable def h_X11_lead_48 (x5 : Int) (μ : cM) : Option cO :=
  some (0, zr x5, μ)
theorem eh_X11_lead_48 {B : Nat} {τ : zM} {x5 : Int} {μ : cM} (h : cOK B τ μ.2) : hR (hf B) (hp B τ) (f_X11_lead_48 x5 (cw B μ)) (h_X11_lead_48 x5 μ) := by
  unfold f_X11_lead_48 h_X11_lead_48
  first | exact hx_some rfl h | exact hx_some rfl trivial
noncomputable def h_X11_lead_7_b (x2 x3 x4 : Int) (μ : cM) : Option ((Int × Int × Int × cM) ⊕ cO) :=
  if 960 ≤ x4 then
    (h_X11_lead_142 μ).map (fun r => (.inr r))
  else
    if x3 = 0 then
      (zgf μ.2 1100 x2).bind fun v1 =>
      if v1 ≠ (-11) then
        (zgf μ.2 1100 x2).bind fun v2 =>
        if v2 ≠ (-10) then
          (zgf μ.2 1105 x2).bind fun v3 =>
          if v3 ≠ (-1) then
            (zgf μ.2 1105 x2).bind fun v4 =>
            h_X11_lead_136 v4 x3 x4 μ
          else
            (h_X11_lead_129 x2 μ).map (fun r => (.inr r))
        else
          (zgf μ.2 1103 x2).bind fun v5 =>
          h_X11_lead_136 v5 x3 x4 μ
      else
        zgd (zis μ.2 12 x2) <|
        hcr (h_X11_around x2 (-9) μ) fun v6 μ7 =>
        h_X11_lead_136 v6 1 x4 μ7
    else
      (zgf μ.2 1102 x2).bind fun v8 =>
      (zgf μ.2 1101 x2).bind fun v9 =>
      if v9 ≠ (-1) then
        h_X11_lead_51 x2 x4 v8 μ
      else
        if v8 = (-1) then
          (h_X11_lead_48 v8 μ).map (fun r => (.inr r))
        else
          (zgf μ.2 1100 v8).bind fun v10 =>
          if v10 ≠ (-9) then
            h_X11_lead_51 x2 x4 v8 μ
          else
            (h_X11_lead_48 v8 μ).map (fun r => (.inr r))
theorem eh_X11_lead_7_b {B : Nat} {τ : zM} {x2 x3 x4 : Int} {μ : cM} (h : cOK B τ μ.2) : hR (Sum.map (fun s => (s.1, s.2.1, s.2.2.1, cw B s.2.2.2)) (hf B)) (Sum.elim (fun s : Int × Int × Int × cM => cOK B τ s.2.2.2.2) (hp B τ)) (f_X11_lead_7_b x2 x3 x4 (cw B μ)) (h_X11_lead_7_b x2 x3 x4 μ) := by
  unfold f_X11_lead_7_b h_X11_lead_7_b
  refine hx_if ?_ ?_
  · exact hx_map (eh_X11_lead_142 h) (fun r => rfl) (fun r q => q)
  · refine hx_if ?_ ?_
    · refine he_gd 1100 rfl (fun v1 => ?_)
      refine hx_if ?_ ?_
      · refine he_gd 1100 rfl (fun v2 => ?_)
        refine hx_if ?_ ?_
        · refine he_gd 1105 rfl (fun v3 => ?_)
          refine hx_if ?_ ?_
          · refine he_gd 1105 rfl (fun v4 => ?_)
            exact (eh_X11_lead_136 h)
          · exact hx_map (eh_X11_lead_129 h) (fun r => rfl) (fun r q => q)
        · refine he_gd 1103 rfl (fun v5 => ?_)
          exact (eh_X11_lead_136 h)
      · refine hx_gd ?_
        refine hx_cr (eh_X11_around h) (fun v6 μ7 h => ?_)
        exact (eh_X11_lead_136 h)
    · refine he_gd 1102 rfl (fun v8 => ?_)
      refine he_gd 1101 rfl (fun v9 => ?_)
      refine hx_if ?_ ?_
      · exact (eh_X11_lead_51 h)
      · refine hx_if ?_ ?_
        · exact hx_map (eh_X11_lead_48 h) (fun r => rfl) (fun r q => q)
        · refine he_gd 1100 rfl (fun v10 => ?_)
          refine hx_if ?_ ?_
          · exact (eh_X11_lead_51 h)
          · exact hx_map (eh_X11_lead_48 h) (fun r => rfl) (fun r q => q)
noncomputable def h_X11_lead_7 (x2 x3 x4 : Int) (μ : cM) : Option cO :=
  zloop (fun s : Int × Int × Int × cM => h_X11_lead_7_b s.1 s.2.1 s.2.2.1 s.2.2.2) (x2, x3, x4, μ)
theorem eh_X11_lead_7 {B : Nat} {τ : zM} {x2 x3 x4 : Int} {μ : cM} (h : cOK B τ μ.2) : hR (hf B) (hp B τ) (f_X11_lead_7 x2 x3 x4 (cw B μ)) (h_X11_lead_7 x2 x3 x4 μ) := by
  unfold f_X11_lead_7 h_X11_lead_7
  refine hx_loop (φ := (fun s => (s.1, s.2.1, s.2.2.1, cw B s.2.2.2))) (Ps := (fun s : Int × Int × Int × cM => cOK B τ s.2.2.2.2)) (s := (x2, x3, x4, μ)) h (fun s hs => ?_)
  exact eh_X11_lead_7_b hs
noncomputable def h_X11_lead (x0 x1 : Int) (μ : cM) : Option cO :=
  h_X11_lead_7 x0 x1 0 μ
theorem eh_X11_lead {B : Nat} {τ : zM} {x0 x1 : Int} {μ : cM} (h : cOK B τ μ.2) : hR (hf B) (hp B τ) (f_X11_lead x0 x1 (cw B μ)) (h_X11_lead x0 x1 μ) := by
  unfold f_X11_lead h_X11_lead
  exact (eh_X11_lead_7 h)
noncomputable def h_X6_jumps_126 (μ : cM) : Option cO :=
  some (0, ((3, 0) : zV), μ)
theorem eh_X6_jumps_126 {B : Nat} {τ : zM} {μ : cM} (h : cOK B τ μ.2) : hR (hf B) (hp B τ) (f_X6_jumps_126  (cw B μ)) (h_X6_jumps_126  μ) := by
  unfold f_X6_jumps_126 h_X6_jumps_126
  first | exact hx_some rfl h | exact hx_some rfl trivial
noncomputable def h_X6_jumps_120 (x2 : Int) (μ : cM) : Option ((Int × cM) ⊕ cO) :=
  zlet (zadd x2 1) fun y1 =>
  some (.inl (y1, μ))
theorem eh_X6_jumps_120 {B : Nat} {τ : zM} {x2 : Int} {μ : cM} (h : cOK B τ μ.2) : hR (Sum.map (fun s => (s.1, cw B s.2)) (hf B)) (Sum.elim (fun s : Int × cM => cOK B τ s.2.2) (hp B τ)) (f_X6_jumps_120 (cad B 5 0) x2 (cw B μ)) (h_X6_jumps_120 x2 μ) := by
  unfold f_X6_jumps_120 h_X6_jumps_120
  refine hx_let (fun y1 => ?_)
  first | exact hx_some rfl h | exact hx_some rfl trivial
noncomputable def h_X6_jumps_111 (x2 x3 t0 : Int) (μ : cM) : Option ((Int × cM) ⊕ cO) :=
  hcvT (h_X5_need t0 μ) (fun n a μ1 => some (.inr (n + 1, zr a, μ1))) fun μ1 =>
  zgd (zis μ1.2 12 x3) <|
  hcrT (h_X11_lead x3 0 μ1) (fun n a μ3 => some (.inr (n + 1, zr a, μ3))) fun v2 μ3 =>
  h_X6_jumps_120 x2 μ3
theorem eh_X6_jumps_111 {B : Nat} {τ : zM} {x2 x3 t0 : Int} {μ : cM} (h : cOK B τ μ.2) : hR (Sum.map (fun s => (s.1, cw B s.2)) (hf B)) (Sum.elim (fun s : Int × cM => cOK B τ s.2.2) (hp B τ)) (f_X6_jumps_111 (cad B 5 0) x2 x3 t0 (cw B μ)) (h_X6_jumps_111 x2 x3 t0 μ) := by
  unfold f_X6_jumps_111 h_X6_jumps_111
  refine hx_cvT (eh_X5_need h) (fun n a μ1 h => hx_some rfl h) (fun μ1 h => ?_)
  refine hx_gd ?_
  refine hx_crT (eh_X11_lead h) (fun n a μ3 h => hx_some rfl h) (fun v2 μ3 h => ?_)
  exact (eh_X6_jumps_120 h)
noncomputable def h_X6_jumps_56_b (x2 : Int) (μ : cM) : Option ((Int × cM) ⊕ cO) :=
  zlet (hG μ 606 0) fun v1 =>
  if v1 ≤ x2 then
    (h_X6_jumps_126 μ).map (fun r => (.inr r))
  else
    zlet (hG μ 605 0) fun v2 =>
    zgd (zis μ.2 23 v2) <|
    hcr (h_J6_get v2 x2 μ) fun v3 μ4 =>
    zgd (zis μ4.2 12 v3) <|
    (zgf μ4.2 1106 v3).bind fun v5 =>
    hwl (hS μ4 502 0 (zadd v5 1)) fun μ6 =>
    (zgf μ6.2 1100 v3).bind fun v7 =>
    if v7 = (-12) then
      (zgf μ6.2 1105 v3).bind fun v8 =>
      if v8 = (-1) then
        h_X6_jumps_111 x2 v3 0 μ6
      else
        h_X6_jumps_111 x2 v3 1 μ6
    else
      h_X6_jumps_120 x2 μ6
theorem eh_X6_jumps_56_b {B : Nat} {τ : zM} {x2 : Int} {μ : cM} (h : cOK B τ μ.2) : hR (Sum.map (fun s => (s.1, cw B s.2)) (hf B)) (Sum.elim (fun s : Int × cM => cOK B τ s.2.2) (hp B τ)) (f_X6_jumps_56_b (cad B 5 0) x2 (cw B μ)) (h_X6_jumps_56_b x2 μ) := by
  unfold f_X6_jumps_56_b h_X6_jumps_56_b
  refine he_gs h (f := 606) (c := 5) (o := 0) ⟨rfl, by decide, by decide⟩ rfl (fun v1 => ?_)
  refine hx_if ?_ ?_
  · exact hx_map (eh_X6_jumps_126 h) (fun r => rfl) (fun r q => q)
  · refine he_gs h (f := 605) (c := 5) (o := 0) ⟨rfl, by decide, by decide⟩ rfl (fun v2 => ?_)
    refine hx_gd ?_
    refine hx_cr (eh_J6_get h) (fun v3 μ4 h => ?_)
    refine hx_gd ?_
    refine he_gd 1106 rfl (fun v5 => ?_)
    refine he_ps h (f := 502) (c := 5) (o := 0) ⟨rfl, by decide, by decide⟩ rfl (fun μ6 h => ?_)
    refine he_gd 1100 rfl (fun v7 => ?_)
    refine hx_if ?_ ?_
    · refine he_gd 1105 rfl (fun v8 => ?_)
      refine hx_if ?_ ?_
      · exact (eh_X6_jumps_111 h)
      · exact (eh_X6_jumps_111 h)
    · exact (eh_X6_jumps_120 h)
noncomputable def h_X6_jumps_56 (x2 : Int) (μ : cM) : Option cO :=
  zloop (fun s : Int × cM => h_X6_jumps_56_b s.1 s.2) (x2, μ)
theorem eh_X6_jumps_56 {B : Nat} {τ : zM} {x2 : Int} {μ : cM} (h : cOK B τ μ.2) : hR (hf B) (hp B τ) (f_X6_jumps_56 (cad B 5 0) x2 (cw B μ)) (h_X6_jumps_56 x2 μ) := by
  unfold f_X6_jumps_56 h_X6_jumps_56
  refine hx_loop (φ := (fun s => (s.1, cw B s.2))) (Ps := (fun s : Int × cM => cOK B τ s.2.2)) (s := (x2, μ)) h (fun s hs => ?_)
  exact eh_X6_jumps_56_b hs
noncomputable def h_X6_jumps_54 (x1 : Int) (μ : cM) : Option cO :=
  h_X6_jumps_56 x1 μ
theorem eh_X6_jumps_54 {B : Nat} {τ : zM} {x1 : Int} {μ : cM} (h : cOK B τ μ.2) : hR (hf B) (hp B τ) (f_X6_jumps_54 (cad B 5 0) x1 (cw B μ)) (h_X6_jumps_54 x1 μ) := by
  unfold f_X6_jumps_54 h_X6_jumps_54
  exact (eh_X6_jumps_56 h)
noncomputable def h_X6_jumps_48 (x1 x2 : Int) (μ : cM) : Option ((Int × cM) ⊕ cO) :=
  zlet (zadd x2 1) fun y1 =>
  some (.inl (y1, μ))
theorem eh_X6_jumps_48 {B : Nat} {τ : zM} {x1 x2 : Int} {μ : cM} (h : cOK B τ μ.2) : hR (Sum.map (fun s => (s.1, cw B s.2)) (hf B)) (Sum.elim (fun s : Int × cM => cOK B τ s.2.2) (hp B τ)) (f_X6_jumps_48 (cad B 5 0) x1 x2 (cw B μ)) (h_X6_jumps_48 x1 x2 μ) := by
  unfold f_X6_jumps_48 h_X6_jumps_48
  refine hx_let (fun y1 => ?_)
  first | exact hx_some rfl h | exact hx_some rfl trivial
noncomputable def h_X6_jumps_2_b (x1 x2 : Int) (μ : cM) : Option ((Int × cM) ⊕ cO) :=
  zlet (hG μ 606 0) fun v1 =>
  if v1 ≤ x2 then
    (h_X6_jumps_54 x1 μ).map (fun r => (.inr r))
  else
    zlet (hG μ 605 0) fun v2 =>
    zgd (zis μ.2 23 v2) <|
    hcr (h_J6_get v2 x2 μ) fun v3 μ4 =>
    zgd (zis μ4.2 12 v3) <|
    (zgf μ4.2 1100 v3).bind fun v5 =>
    if v5 ≠ (-12) then
      h_X6_jumps_48 x1 x2 μ4
    else
      zlet (hG μ4 607 0) fun v6 =>
      (hnn v6).bind fun q1 =>
      (zgf μ4.2 1107 v3).bind fun v8 =>
      (hga μ4 404 v6 v8).bind fun v9 =>
      (hup μ4 (zpf μ4.2 1105 v3 v9)).bind fun μ10 =>
      h_X6_jumps_48 x1 x2 μ10
theorem eh_X6_jumps_2_b {B : Nat} {τ : zM} {x1 x2 : Int} {μ : cM} (h : cOK B τ μ.2) : hR (Sum.map (fun s => (s.1, cw B s.2)) (hf B)) (Sum.elim (fun s : Int × cM => cOK B τ s.2.2) (hp B τ)) (f_X6_jumps_2_b (cad B 5 0) x1 x2 (cw B μ)) (h_X6_jumps_2_b x1 x2 μ) := by
  unfold f_X6_jumps_2_b h_X6_jumps_2_b
  refine he_gs h (f := 606) (c := 5) (o := 0) ⟨rfl, by decide, by decide⟩ rfl (fun v1 => ?_)
  refine hx_if ?_ ?_
  · exact hx_map (eh_X6_jumps_54 h) (fun r => rfl) (fun r q => q)
  · refine he_gs h (f := 605) (c := 5) (o := 0) ⟨rfl, by decide, by decide⟩ rfl (fun v2 => ?_)
    refine hx_gd ?_
    refine hx_cr (eh_J6_get h) (fun v3 μ4 h => ?_)
    refine hx_gd ?_
    refine he_gd 1100 rfl (fun v5 => ?_)
    refine hx_if ?_ ?_
    · exact (eh_X6_jumps_48 h)
    · refine he_g7 h (fun v6 => ?_)
      refine hx_nnG (fun hn => ?_)
      rw [radr_ne hn]
      refine he_gA h (f := 404) (c := 4) (o := v6) ⟨rfl, by decide⟩ rfl ?_
      refine he_gd 1107 rfl (fun v8 => ?_)
      refine he_ga h (f := 404) (o := v6) ⟨⟨rfl, by decide, by decide⟩, rfl⟩ (fun v9 => ?_)
      refine he_pd h 1105 ⟨by decide, by decide⟩ rfl (fun μ10 h => ?_)
      exact (eh_X6_jumps_48 h)
noncomputable def h_X6_jumps_2 (x1 x2 : Int) (μ : cM) : Option cO :=
  zloop (fun s : Int × cM => h_X6_jumps_2_b x1 s.1 s.2) (x2, μ)
theorem eh_X6_jumps_2 {B : Nat} {τ : zM} {x1 x2 : Int} {μ : cM} (h : cOK B τ μ.2) : hR (hf B) (hp B τ) (f_X6_jumps_2 (cad B 5 0) x1 x2 (cw B μ)) (h_X6_jumps_2 x1 x2 μ) := by
  unfold f_X6_jumps_2 h_X6_jumps_2
  refine hx_loop (φ := (fun s => (s.1, cw B s.2))) (Ps := (fun s : Int × cM => cOK B τ s.2.2)) (s := (x2, μ)) h (fun s hs => ?_)
  exact eh_X6_jumps_2_b hs
noncomputable def h_X6_jumps (x1 : Int) (μ : cM) : Option cO :=
  h_X6_jumps_2 x1 x1 μ
theorem eh_X6_jumps {B : Nat} {τ : zM} {x1 : Int} {μ : cM} (h : cOK B τ μ.2) : hR (hf B) (hp B τ) (f_X6_jumps (cad B 5 0) x1 (cw B μ)) (h_X6_jumps x1 μ) := by
  unfold f_X6_jumps h_X6_jumps
  exact (eh_X6_jumps_2 h)
noncomputable def h_X4_pointOf_15 (t0 : Int) (μ : cM) : Option cO :=
  some (0, zi t0, μ)
theorem eh_X4_pointOf_15 {B : Nat} {τ : zM} {t0 : Int} {μ : cM} (h : cOK B τ μ.2) : hR (hf B) (hp B τ) (f_X4_pointOf_15 t0 (cw B μ)) (h_X4_pointOf_15 t0 μ) := by
  unfold f_X4_pointOf_15 h_X4_pointOf_15
  first | exact hx_some rfl h | exact hx_some rfl trivial
noncomputable def h_X4_pointOf (x0 x1 : Int) (μ : cM) : Option cO :=
  if x1 ≠ (-1) then
    (zgf μ.2 1110 x1).bind fun v1 =>
    h_X4_pointOf_15 v1 μ
  else
    zlet (hG μ 401 x0) fun v2 =>
    h_X4_pointOf_15 v2 μ
theorem eh_X4_pointOf {B : Nat} {τ : zM} {x0 x1 : Int} {μ : cM} (h : cOK B τ μ.2) : hR (hf B) (hp B τ) (f_X4_pointOf (cad B 4 x0) x1 (cw B μ)) (h_X4_pointOf x0 x1 μ) := by
  unfold f_X4_pointOf h_X4_pointOf
  refine hx_if ?_ ?_
  · refine he_gd 1110 rfl (fun v1 => ?_)
    exact (eh_X4_pointOf_15 h)
  · refine he_gs h (f := 401) (c := 4) (o := x0) ⟨rfl, by decide, by decide⟩ rfl (fun v2 => ?_)
    exact (eh_X4_pointOf_15 h)
noncomputable def h_J20_ordinal (x0 : Int) (μ : cM) : Option cO :=
  zgd (zen x0) <|
  some (0, zi (-2 - x0), μ)
theorem eh_J20_ordinal {B : Nat} {τ : zM} {x0 : Int} {μ : cM} (h : cOK B τ μ.2) : hR (hf B) (hp B τ) (f_J20_ordinal x0 (cw B μ)) (h_J20_ordinal x0 μ) := by
  unfold f_J20_ordinal h_J20_ordinal
  refine hx_gd ?_
  first | exact hx_some rfl h | exact hx_some rfl trivial
noncomputable def h_X10_isPoint_18 (t0 : Int) (μ : cM) : Option cO :=
  zgd (z01 t0) <|
  some (0, zi t0, μ)
theorem eh_X10_isPoint_18 {B : Nat} {τ : zM} {t0 : Int} {μ : cM} (h : cOK B τ μ.2) : hR (hf B) (hp B τ) (f_X10_isPoint_18 t0 (cw B μ)) (h_X10_isPoint_18 t0 μ) := by
  unfold f_X10_isPoint_18 h_X10_isPoint_18
  refine hx_gd ?_
  first | exact hx_some rfl h | exact hx_some rfl trivial
noncomputable def h_X10_isPoint (x0 : Int) (μ : cM) : Option cO :=
  zgd (zen x0) <|
  hci (h_J20_ordinal x0 μ) fun v1 μ2 =>
  zgd (zen (-9)) <|
  hci (h_J20_ordinal (-9) μ2) fun v3 μ4 =>
  if v3 < v1 then
    h_X10_isPoint_18 0 μ4
  else
    h_X10_isPoint_18 1 μ4
theorem eh_X10_isPoint {B : Nat} {τ : zM} {x0 : Int} {μ : cM} (h : cOK B τ μ.2) : hR (hf B) (hp B τ) (f_X10_isPoint x0 (cw B μ)) (h_X10_isPoint x0 μ) := by
  unfold f_X10_isPoint h_X10_isPoint
  refine hx_gd ?_
  refine hx_ci (eh_J20_ordinal h) (fun v1 μ2 h => ?_)
  refine hx_gd ?_
  refine hx_ci (eh_J20_ordinal h) (fun v3 μ4 h => ?_)
  refine hx_if ?_ ?_
  · exact (eh_X10_isPoint_18 h)
  · exact (eh_X10_isPoint_18 h)
noncomputable def h_X10_isBasic_18 (t0 : Int) (μ : cM) : Option cO :=
  zgd (z01 t0) <|
  some (0, zi t0, μ)
theorem eh_X10_isBasic_18 {B : Nat} {τ : zM} {t0 : Int} {μ : cM} (h : cOK B τ μ.2) : hR (hf B) (hp B τ) (f_X10_isBasic_18 t0 (cw B μ)) (h_X10_isBasic_18 t0 μ) := by
  unfold f_X10_isBasic_18 h_X10_isBasic_18
  refine hx_gd ?_
  first | exact hx_some rfl h | exact hx_some rfl trivial
noncomputable def h_X10_isBasic (x0 : Int) (μ : cM) : Option cO :=
  zgd (zen x0) <|
  hci (h_J20_ordinal x0 μ) fun v1 μ2 =>
  zgd (zen (-7)) <|
  hci (h_J20_ordinal (-7) μ2) fun v3 μ4 =>
  if v3 < v1 then
    h_X10_isBasic_18 0 μ4
  else
    h_X10_isBasic_18 1 μ4
theorem eh_X10_isBasic {B : Nat} {τ : zM} {x0 : Int} {μ : cM} (h : cOK B τ μ.2) : hR (hf B) (hp B τ) (f_X10_isBasic x0 (cw B μ)) (h_X10_isBasic x0 μ) := by
  unfold f_X10_isBasic h_X10_isBasic
  refine hx_gd ?_
  refine hx_ci (eh_J20_ordinal h) (fun v1 μ2 h => ?_)
  refine hx_gd ?_
  refine hx_ci (eh_J20_ordinal h) (fun v3 μ4 h => ?_)
  refine hx_if ?_ ?_
  · exact (eh_X10_isBasic_18 h)
  · exact (eh_X10_isBasic_18 h)
def HRC_G_X6_at (B : Nat) (τ : zM) (rc : Nat → List Int → zM → Option zO) (rc' : Nat → List Int → cM → Option cO) : Prop :=
  (∀ {x0 : Int} {μ : cM}, cOK B τ μ.2 → hR (hf B) (hp B τ) (rc 0 [x0] (cw B μ)) (rc' 0 [x0] μ)) ∧ True
noncomputable def h_X6_at_47 (rc' : Nat → List Int → cM → Option cO) (x1 : Int) (μ : cM) : Option cO :=
  some (0, zj x1, μ)
theorem eh_X6_at_47 {B : Nat} {τ : zM} {rc : Nat → List Int → zM → Option zO} {rc' : Nat → List Int → cM → Option cO} (hrc : HRC_G_X6_at B τ rc rc') {x1 : Int} {μ : cM} (h : cOK B τ μ.2) : hR (hf B) (hp B τ) (f_X6_at_47 rc x1 (cw B μ)) (h_X6_at_47 rc' x1 μ) := by
  unfold f_X6_at_47 h_X6_at_47
  first | exact hx_some rfl h | exact hx_some rfl trivial
noncomputable def h_X6_at_24_b (rc' : Nat → List Int → cM → Option cO) (x1 x3 : Int) (μ : cM) : Option ((Int × Int × cM) ⊕ cO) :=
  if x3 = (-1) then
    (h_X6_at_47 rc' x1 μ).map (fun r => (.inr r))
  else
    zgd (zis μ.2 12 x3) <|
    hcrT (h_X11_lead x3 0 μ) (fun n a μ2 => some (.inr (n + 1, zr a, μ2))) fun v1 μ2 =>
    hcjT (rc' 0 [v1] μ2) (fun n a μ4 => some (.inr (n + 1, zr a, μ4))) fun v3 μ4 =>
    zlet ((jor x1 v3)) fun y5 =>
    (zgf μ4.2 1104 x3).bind fun v6 =>
    some (.inl (y5, v6, μ4))
theorem eh_X6_at_24_b {B : Nat} {τ : zM} {rc : Nat → List Int → zM → Option zO} {rc' : Nat → List Int → cM → Option cO} (hrc : HRC_G_X6_at B τ rc rc') {x1 x3 : Int} {μ : cM} (h : cOK B τ μ.2) : hR (Sum.map (fun s => (s.1, s.2.1, cw B s.2.2)) (hf B)) (Sum.elim (fun s : Int × Int × cM => cOK B τ s.2.2.2) (hp B τ)) (f_X6_at_24_b rc x1 x3 (cw B μ)) (h_X6_at_24_b rc' x1 x3 μ) := by
  unfold f_X6_at_24_b h_X6_at_24_b
  refine hx_if ?_ ?_
  · exact hx_map (eh_X6_at_47 hrc h) (fun r => rfl) (fun r q => q)
  · refine hx_gd ?_
    refine hx_crT (eh_X11_lead h) (fun n a μ2 h => hx_some rfl h) (fun v1 μ2 h => ?_)
    refine hx_cjT (hrc.1 h) (fun n a μ4 h => hx_some rfl h) (fun v3 μ4 h => ?_)
    refine hx_let (fun y5 => ?_)
    refine he_gd 1104 rfl (fun v6 => ?_)
    first | exact hx_some rfl h | exact hx_some rfl trivial
noncomputable def h_X6_at_24 (rc' : Nat → List Int → cM → Option cO) (x1 x3 : Int) (μ : cM) : Option cO :=
  zloop (fun s : Int × Int × cM => h_X6_at_24_b rc' s.1 s.2.1 s.2.2) (x1, x3, μ)
theorem eh_X6_at_24 {B : Nat} {τ : zM} {rc : Nat → List Int → zM → Option zO} {rc' : Nat → List Int → cM → Option cO} (hrc : HRC_G_X6_at B τ rc rc') {x1 x3 : Int} {μ : cM} (h : cOK B τ μ.2) : hR (hf B) (hp B τ) (f_X6_at_24 rc x1 x3 (cw B μ)) (h_X6_at_24 rc' x1 x3 μ) := by
  unfold f_X6_at_24 h_X6_at_24
  refine hx_loop (φ := (fun s => (s.1, s.2.1, cw B s.2.2))) (Ps := (fun s : Int × Int × cM => cOK B τ s.2.2.2)) (s := (x1, x3, μ)) h (fun s hs => ?_)
  exact eh_X6_at_24_b hrc hs
noncomputable def h_X6_at (rc' : Nat → List Int → cM → Option cO) (x0 : Int) (μ : cM) : Option cO :=
  (zgf μ.2 1100 x0).bind fun v1 =>
  zgd (zen v1) <|
  hci (h_X10_isBasic v1 μ) fun v2 μ3 =>
  if v2 = 0 then
    (zgf μ3.2 1103 x0).bind fun v4 =>
    h_X6_at_24 rc' 0 v4 μ3
  else
    (zgf μ3.2 1109 x0).bind fun v5 =>
    some (0, zj (jshl 1 v5), μ3)
theorem eh_X6_at {B : Nat} {τ : zM} {rc : Nat → List Int → zM → Option zO} {rc' : Nat → List Int → cM → Option cO} (hrc : HRC_G_X6_at B τ rc rc') {x0 : Int} {μ : cM} (h : cOK B τ μ.2) : hR (hf B) (hp B τ) (f_X6_at rc x0 (cw B μ)) (h_X6_at rc' x0 μ) := by
  unfold f_X6_at h_X6_at
  refine he_gd 1100 rfl (fun v1 => ?_)
  refine hx_gd ?_
  refine hx_ci (eh_X10_isBasic h) (fun v2 μ3 h => ?_)
  refine hx_if ?_ ?_
  · refine he_gd 1103 rfl (fun v4 => ?_)
    exact (eh_X6_at_24 hrc h)
  · refine he_gd 1109 rfl (fun v5 => ?_)
    first | exact hx_some rfl h | exact hx_some rfl trivial
noncomputable def h_G_X6_at : Nat → Nat → List Int → cM → Option cO
  | 0, _, _, _ => none
  | d + 1, tg, as, μ => match tg, as with
    | 0, [x0] => h_X6_at (h_G_X6_at d) x0 μ
    | _, _ => none
theorem eh_G_X6_at (B : Nat) (τ : zM) : ∀ d : Nat, HRC_G_X6_at B τ (f_G_X6_at d) (h_G_X6_at d)
  | 0 => ⟨(fun _ => hR_none _ _), trivial⟩
  | d + 1 => ⟨(fun h => eh_X6_at (eh_G_X6_at B τ d) h), trivial⟩
noncomputable def h_X6_link_274 (μ : cM) : Option cO :=
  some (0, ((3, 0) : zV), μ)
theorem eh_X6_link_274 {B : Nat} {τ : zM} {μ : cM} (h : cOK B τ μ.2) : hR (hf B) (hp B τ) (f_X6_link_274  (cw B μ)) (h_X6_link_274  μ) := by
  unfold f_X6_link_274 h_X6_link_274
  first | exact hx_some rfl h | exact hx_some rfl trivial
noncomputable def h_X6_link_268 (x2 x3 : Int) (μ : cM) : Option ((Int × cM) ⊕ cO) :=
  zlet (zadd x3 1) fun y1 =>
  some (.inl (y1, μ))
theorem eh_X6_link_268 {B : Nat} {τ : zM} {x2 x3 : Int} {μ : cM} (h : cOK B τ μ.2) : hR (Sum.map (fun s => (s.1, cw B s.2)) (hf B)) (Sum.elim (fun s : Int × cM => cOK B τ s.2.2) (hp B τ)) (f_X6_link_268 (cad B 5 0) x2 x3 (cw B μ)) (h_X6_link_268 x2 x3 μ) := by
  unfold f_X6_link_268 h_X6_link_268
  refine hx_let (fun y1 => ?_)
  first | exact hx_some rfl h | exact hx_some rfl trivial
noncomputable def h_X6_link_267 (x2 x3 t0 t1 : Int) (μ : cM) : Option ((Int × cM) ⊕ cO) :=
  zgd (z01 t0) <|
  (hpa μ 210 0 t1 t0).bind fun μ1 =>
  h_X6_link_268 x2 x3 μ1
theorem eh_X6_link_267 {B : Nat} {τ : zM} {x2 x3 t0 t1 : Int} {μ : cM} (h : cOK B τ μ.2) : hR (Sum.map (fun s => (s.1, cw B s.2)) (hf B)) (Sum.elim (fun s : Int × cM => cOK B τ s.2.2) (hp B τ)) (f_X6_link_267 (cad B 5 0) x2 x3 t0 t1 (caa B 210 0) (cw B μ)) (h_X6_link_267 x2 x3 t0 t1 μ) := by
  unfold f_X6_link_267 h_X6_link_267
  refine hx_gd ?_
  refine he_pa h (f := 210) (o := 0) ⟨⟨rfl, by decide, by decide⟩, rfl⟩ (fun μ1 h => ?_)
  exact (eh_X6_link_268 h)
noncomputable def h_X6_link_266 (x2 x3 t0 : Int) (μ : cM) : Option ((Int × cM) ⊕ cO) :=
  h_X6_link_267 x2 x3 0 t0 μ
theorem eh_X6_link_266 {B : Nat} {τ : zM} {x2 x3 t0 : Int} {μ : cM} (h : cOK B τ μ.2) : hR (Sum.map (fun s => (s.1, cw B s.2)) (hf B)) (Sum.elim (fun s : Int × cM => cOK B τ s.2.2) (hp B τ)) (f_X6_link_266 (cad B 5 0) x2 x3 t0 (caa B 210 0) (cw B μ)) (h_X6_link_266 x2 x3 t0 μ) := by
  unfold f_X6_link_266 h_X6_link_266
  exact (eh_X6_link_267 h)
noncomputable def h_X6_link_144 (x2 x3 x4 : Int) (μ : cM) : Option ((Int × cM) ⊕ cO) :=
  (zgf μ.2 1100 x4).bind fun v1 =>
  zgd (zen v1) <|
  hci (h_X10_isBasic v1 μ) fun v2 μ3 =>
  if v2 ≠ 0 then
    zgd (zis μ3.2 12 x4) <|
    hcrT (h_X11_lead x4 1 μ3) (fun n a μ5 => some (.inr (n + 1, zr a, μ5))) fun v4 μ5 =>
    zgd (zis μ5.2 12 x4) <|
    hcr (h_X11_around x4 (-10) μ5) fun v6 μ7 =>
    (zgf μ7.2 1109 x4).bind fun v10 =>
    (hpr μ7 207 0 v10 x4).bind fun μ11 =>
    (zgf μ11.2 1109 x4).bind fun v14 =>
    (hpa μ11 208 0 v14 x2).bind fun μ15 =>
    (zgf μ15.2 1109 x4).bind fun v18 =>
    zlet (hG μ15 607 0) fun v19 =>
    (hnn v19).bind fun q1 =>
    hci (h_X4_pointOf v19 v4 μ15) fun v20 μ21 =>
    (hpa μ21 209 0 v18 v20).bind fun μ22 =>
    (zgf μ22.2 1109 x4).bind fun v25 =>
    if v6 = (-1) then
      h_X6_link_266 x2 x3 v25 μ22
    else
      if v4 = (-1) then
        h_X6_link_266 x2 x3 v25 μ22
      else
        zgd (zis μ22.2 12 v4) <|
        hcr (h_X11_around v4 (-10) μ22) fun v26 μ27 =>
        if v26 ≠ v6 then
          h_X6_link_266 x2 x3 v25 μ27
        else
          h_X6_link_267 x2 x3 1 v25 μ27
  else
    h_X6_link_268 x2 x3 μ3
theorem eh_X6_link_144 {B : Nat} {τ : zM} {x2 x3 x4 : Int} {μ : cM} (h : cOK B τ μ.2) : hR (Sum.map (fun s => (s.1, cw B s.2)) (hf B)) (Sum.elim (fun s : Int × cM => cOK B τ s.2.2) (hp B τ)) (f_X6_link_144 (cad B 5 0) x2 x3 x4 (cw B μ)) (h_X6_link_144 x2 x3 x4 μ) := by
  unfold f_X6_link_144 h_X6_link_144
  refine he_gd 1100 rfl (fun v1 => ?_)
  refine hx_gd ?_
  refine hx_ci (eh_X10_isBasic h) (fun v2 μ3 h => ?_)
  refine hx_if ?_ ?_
  · refine hx_gd ?_
    refine hx_crT (eh_X11_lead h) (fun n a μ5 h => hx_some rfl h) (fun v4 μ5 h => ?_)
    refine hx_gd ?_
    refine hx_cr (eh_X11_around h) (fun v6 μ7 h => ?_)
    refine he_gr h (f := 500) (c := 5) (o := 0) ⟨by decide, by decide⟩ rfl ?_
    refine he_gA h (f := 207) (c := 2) (o := 0) ⟨rfl, by decide⟩ rfl ?_
    refine he_gd 1109 rfl (fun v10 => ?_)
    refine he_pr h (f := 207) (o := 0) ⟨⟨rfl, by decide, by decide⟩, rfl⟩ (fun μ11 h => ?_)
    refine he_gr h (f := 500) (c := 5) (o := 0) ⟨by decide, by decide⟩ rfl ?_
    refine he_gA h (f := 208) (c := 2) (o := 0) ⟨rfl, by decide⟩ rfl ?_
    refine he_gd 1109 rfl (fun v14 => ?_)
    refine he_pa h (f := 208) (o := 0) ⟨⟨rfl, by decide, by decide⟩, rfl⟩ (fun μ15 h => ?_)
    refine he_gr h (f := 500) (c := 5) (o := 0) ⟨by decide, by decide⟩ rfl ?_
    refine he_gA h (f := 209) (c := 2) (o := 0) ⟨rfl, by decide⟩ rfl ?_
    refine he_gd 1109 rfl (fun v18 => ?_)
    refine he_g7 h (fun v19 => ?_)
    refine hx_nnI (fun hn => ?_)
    rw [radr_ne hn]
    refine hx_is h ⟨rfl, by decide, by decide⟩ ?_
    refine hx_ci (eh_X4_pointOf h) (fun v20 μ21 h => ?_)
    refine he_pa h (f := 209) (o := 0) ⟨⟨rfl, by decide, by decide⟩, rfl⟩ (fun μ22 h => ?_)
    refine he_gr h (f := 500) (c := 5) (o := 0) ⟨by decide, by decide⟩ rfl ?_
    refine he_gA h (f := 210) (c := 2) (o := 0) ⟨rfl, by decide⟩ rfl ?_
    refine he_gd 1109 rfl (fun v25 => ?_)
    refine hx_if ?_ ?_
    · exact (eh_X6_link_266 h)
    · refine hx_if ?_ ?_
      · exact (eh_X6_link_266 h)
      · refine hx_gd ?_
        refine hx_cr (eh_X11_around h) (fun v26 μ27 h => ?_)
        refine hx_if ?_ ?_
        · exact (eh_X6_link_266 h)
        · exact (eh_X6_link_267 h)
  · exact (eh_X6_link_268 h)
noncomputable def h_X6_link_94_b (x2 x3 : Int) (μ : cM) : Option ((Int × cM) ⊕ cO) :=
  zlet (hG μ 606 0) fun v1 =>
  if v1 ≤ x3 then
    (h_X6_link_274 μ).map (fun r => (.inr r))
  else
    zlet (hG μ 605 0) fun v2 =>
    zgd (zis μ.2 23 v2) <|
    hcr (h_J6_get v2 x3 μ) fun v3 μ4 =>
    zgd (zis μ4.2 12 v3) <|
    (zgf μ4.2 1100 v3).bind fun v5 =>
    zgd (zen v5) <|
    hci (h_X10_isPoint v5 μ4) fun v6 μ7 =>
    if v6 = 0 then
      h_X6_link_144 x2 x3 v3 μ7
    else
      zlet (hG μ7 607 0) fun v8 =>
      (hnn v8).bind fun q1 =>
      (zgf μ7.2 1110 v3).bind fun v10 =>
      hcjT (h_G_X6_at 40 0 [v3] μ7) (fun n a μ12 => some (.inr (n + 1, zr a, μ12))) fun v11 μ12 =>
      (hpa μ12 406 v8 v10 v11).bind fun μ13 =>
      h_X6_link_144 x2 x3 v3 μ13
theorem eh_X6_link_94_b {B : Nat} {τ : zM} {x2 x3 : Int} {μ : cM} (h : cOK B τ μ.2) : hR (Sum.map (fun s => (s.1, cw B s.2)) (hf B)) (Sum.elim (fun s : Int × cM => cOK B τ s.2.2) (hp B τ)) (f_X6_link_94_b (cad B 5 0) x2 x3 (cw B μ)) (h_X6_link_94_b x2 x3 μ) := by
  unfold f_X6_link_94_b h_X6_link_94_b
  refine he_gs h (f := 606) (c := 5) (o := 0) ⟨rfl, by decide, by decide⟩ rfl (fun v1 => ?_)
  refine hx_if ?_ ?_
  · exact hx_map (eh_X6_link_274 h) (fun r => rfl) (fun r q => q)
  · refine he_gs h (f := 605) (c := 5) (o := 0) ⟨rfl, by decide, by decide⟩ rfl (fun v2 => ?_)
    refine hx_gd ?_
    refine hx_cr (eh_J6_get h) (fun v3 μ4 h => ?_)
    refine hx_gd ?_
    refine he_gd 1100 rfl (fun v5 => ?_)
    refine hx_gd ?_
    refine hx_ci (eh_X10_isPoint h) (fun v6 μ7 h => ?_)
    refine hx_if ?_ ?_
    · exact (eh_X6_link_144 h)
    · refine he_g7 h (fun v8 => ?_)
      refine hx_nnG (fun hn => ?_)
      rw [radr_ne hn]
      refine he_gA h (f := 406) (c := 4) (o := v8) ⟨rfl, by decide⟩ rfl ?_
      refine he_gd 1110 rfl (fun v10 => ?_)
      refine hx_cjT ((eh_G_X6_at B τ 40).1 h) (fun n a μ12 h => hx_some rfl h) (fun v11 μ12 h => ?_)
      refine he_pa h (f := 406) (o := v8) ⟨⟨rfl, by decide, by decide⟩, rfl⟩ (fun μ13 h => ?_)
      exact (eh_X6_link_144 h)
noncomputable def h_X6_link_94 (x2 x3 : Int) (μ : cM) : Option cO :=
  zloop (fun s : Int × cM => h_X6_link_94_b x2 s.1 s.2) (x3, μ)
theorem eh_X6_link_94 {B : Nat} {τ : zM} {x2 x3 : Int} {μ : cM} (h : cOK B τ μ.2) : hR (hf B) (hp B τ) (f_X6_link_94 (cad B 5 0) x2 x3 (cw B μ)) (h_X6_link_94 x2 x3 μ) := by
  unfold f_X6_link_94 h_X6_link_94
  refine hx_loop (φ := (fun s => (s.1, cw B s.2))) (Ps := (fun s : Int × cM => cOK B τ s.2.2)) (s := (x3, μ)) h (fun s hs => ?_)
  exact eh_X6_link_94_b hs
noncomputable def h_X6_link_92 (x1 x2 : Int) (μ : cM) : Option cO :=
  h_X6_link_94 x2 x1 μ
theorem eh_X6_link_92 {B : Nat} {τ : zM} {x1 x2 : Int} {μ : cM} (h : cOK B τ μ.2) : hR (hf B) (hp B τ) (f_X6_link_92 (cad B 5 0) x1 x2 (cw B μ)) (h_X6_link_92 x1 x2 μ) := by
  unfold f_X6_link_92 h_X6_link_92
  exact (eh_X6_link_94 h)
noncomputable def h_X6_link_85 (x1 x2 x3 t0 t1 t2 : Int) (μ : cM) : Option ((Int × cM) ⊕ cO) :=
  (hpa μ 405 t2 t1 t0).bind fun μ1 =>
  zlet (zadd x3 1) fun y2 =>
  some (.inl (y2, μ1))
theorem eh_X6_link_85 {B : Nat} {τ : zM} {x1 x2 x3 t0 t1 t2 : Int} {μ : cM} (h : cOK B τ μ.2) : hR (Sum.map (fun s => (s.1, cw B s.2)) (hf B)) (Sum.elim (fun s : Int × cM => cOK B τ s.2.2) (hp B τ)) (f_X6_link_85 (cad B 5 0) x1 x2 x3 t0 t1 (caa B 405 t2) (cw B μ)) (h_X6_link_85 x1 x2 x3 t0 t1 t2 μ) := by
  unfold f_X6_link_85 h_X6_link_85
  refine he_pa h (f := 405) (o := t2) ⟨⟨rfl, by decide, by decide⟩, rfl⟩ (fun μ1 h => ?_)
  refine hx_let (fun y2 => ?_)
  first | exact hx_some rfl h | exact hx_some rfl trivial

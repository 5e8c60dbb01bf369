set_option maxRecDepth 100000
noncomputable def h_X6_link_35_b (x1 x2 x3 : Int) (μ : cM) : Option ((Int × cM) ⊕ cO) :=
  if 8 ≤ x3 then
    (h_X6_link_92 x1 x2 μ).map (fun r => (.inr r))
  else
    zlet (hG μ 607 0) fun v1 =>
    (hnn v1).bind fun q1 =>
    zlet (hG μ 607 0) fun v3 =>
    (hnn v3).bind fun q2 =>
    (hga μ 404 v3 x3).bind fun v5 =>
    if v5 ≠ (-1) then
      zlet (hG μ 607 0) fun v6 =>
      zlet (hG μ 607 0) fun v7 =>
      (hnn v7).bind fun q3 =>
      (hga μ 404 v7 x3).bind fun v9 =>
      zgd (zis μ.2 12 v9) <|
      hcrT (h_X11_lead v9 0 μ) (fun n a μ11 => some (.inr (n + 1, zr a, μ11))) fun v10 μ11 =>
      (hnn v6).bind fun q4 =>
      hci (h_X4_pointOf v6 v10 μ11) fun v12 μ13 =>
      h_X6_link_85 x1 x2 x3 v12 x3 v1 μ13
    else
      h_X6_link_85 x1 x2 x3 (-1) x3 v1 μ
theorem eh_X6_link_35_b {B : Nat} {τ : zM} {x1 x2 x3 : Int} {μ : cM} (h : cOK B τ μ.2) : hR (Sum.map (fun s => (s.1, cw B s.2)) (hf B)) (Sum.elim (fun s : Int × cM => cOK B τ s.2.2) (hp B τ)) (f_X6_link_35_b (cad B 5 0) x1 x2 x3 (cw B μ)) (h_X6_link_35_b x1 x2 x3 μ) := by
  unfold f_X6_link_35_b h_X6_link_35_b
  refine hx_if ?_ ?_
  · exact hx_map (eh_X6_link_92 h) (fun r => rfl) (fun r q => q)
  · refine he_g7 h (fun v1 => ?_)
    refine hx_nnG (fun hn => ?_)
    rw [radr_ne hn]
    refine he_gA h (f := 405) (c := 4) (o := v1) ⟨rfl, by decide⟩ rfl ?_
    refine he_g7 h (fun v3 => ?_)
    refine hx_nnG (fun hn => ?_)
    rw [radr_ne hn]
    refine he_gA h (f := 404) (c := 4) (o := v3) ⟨rfl, by decide⟩ rfl ?_
    refine he_ga h (f := 404) (o := v3) ⟨⟨rfl, by decide, by decide⟩, rfl⟩ (fun v5 => ?_)
    refine hx_if ?_ ?_
    · refine he_g7 h (fun v6 => ?_)
      refine he_g7 h (fun v7 => ?_)
      refine hx_nnG (fun hn => ?_)
      rw [radr_ne hn]
      refine he_gA h (f := 404) (c := 4) (o := v7) ⟨rfl, by decide⟩ rfl ?_
      refine he_ga h (f := 404) (o := v7) ⟨⟨rfl, by decide, by decide⟩, rfl⟩ (fun v9 => ?_)
      refine hx_gd ?_
      refine hx_crT (eh_X11_lead h) (fun n a μ11 h => hx_some rfl h) (fun v10 μ11 h => ?_)
      refine hx_nnI (fun hn => ?_)
      rw [radr_ne hn]
      refine hx_is h ⟨rfl, by decide, by decide⟩ ?_
      refine hx_ci (eh_X4_pointOf h) (fun v12 μ13 h => ?_)
      exact (eh_X6_link_85 h)
    · exact (eh_X6_link_85 h)
noncomputable def h_X6_link_35 (x1 x2 x3 : Int) (μ : cM) : Option cO :=
  zloop (fun s : Int × cM => h_X6_link_35_b x1 x2 s.1 s.2) (x3, μ)
theorem eh_X6_link_35 {B : Nat} {τ : zM} {x1 x2 x3 : Int} {μ : cM} (h : cOK B τ μ.2) : hR (hf B) (hp B τ) (f_X6_link_35 (cad B 5 0) x1 x2 x3 (cw B μ)) (h_X6_link_35 x1 x2 x3 μ) := by
  unfold f_X6_link_35 h_X6_link_35
  refine hx_loop (φ := (fun s => (s.1, cw B s.2))) (Ps := (fun s : Int × cM => cOK B τ s.2.2)) (s := (x3, μ)) h (fun s hs => ?_)
  exact eh_X6_link_35_b hs
noncomputable def h_X6_link (x1 : Int) (μ : cM) : Option cO :=
  zlet (hG μ 204 0) fun v2 =>
  zlet (hG μ 607 0) fun v3 =>
  zlet (hG μ 607 0) fun v4 =>
  zlet (hG μ 607 0) fun v5 =>
  (hnn v5).bind fun q1 =>
  zlet (hG μ 400 v5) fun v6 =>
  zgd (zis μ.2 12 v6) <|
  hcrT (h_X11_lead v6 0 μ) (fun n a μ8 => some (n + 1, zr a, μ8)) fun v7 μ8 =>
  (hnn v4).bind fun q2 =>
  hci (h_X4_pointOf v4 v7 μ8) fun v9 μ10 =>
  (hnn v3).bind fun q3 =>
  hwl (hS μ10 402 v3 v9) fun μ11 =>
  h_X6_link_35 x1 v2 0 μ11
theorem eh_X6_link {B : Nat} {τ : zM} {x1 : Int} {μ : cM} (h : cOK B τ μ.2) : hR (hf B) (hp B τ) (f_X6_link (cad B 5 0) x1 (cw B μ)) (h_X6_link x1 μ) := by
  unfold f_X6_link h_X6_link
  refine he_gr h (f := 500) (c := 5) (o := 0) ⟨by decide, by decide⟩ rfl ?_
  refine he_gs h (f := 204) (c := 2) (o := 0) ⟨rfl, by decide, by decide⟩ rfl (fun v2 => ?_)
  refine he_g7 h (fun v3 => ?_)
  refine he_g7 h (fun v4 => ?_)
  refine he_g7 h (fun v5 => ?_)
  refine hx_nnG (fun hn => ?_)
  rw [radr_ne hn]
  refine he_gs h (f := 400) (c := 4) (o := v5) ⟨rfl, by decide, by decide⟩ rfl (fun v6 => ?_)
  refine hx_gd ?_
  refine hx_crT (eh_X11_lead h) (fun n a μ8 h => hx_some rfl h) (fun v7 μ8 h => ?_)
  refine hx_nnI (fun hn => ?_)
  rw [radr_ne hn]
  refine hx_is h ⟨rfl, by decide, by decide⟩ ?_
  refine hx_ci (eh_X4_pointOf h) (fun v9 μ10 h => ?_)
  refine hx_nnP (fun hn => ?_)
  rw [radr_ne hn]
  refine he_ps h (f := 402) (c := 4) (o := v3) ⟨rfl, by decide, by decide⟩ rfl (fun μ11 h => ?_)
  exact (eh_X6_link_35 h)
noncomputable def h_X6_process_96 (x1 t0 : Int) (μ : cM) : Option cO :=
  hcvT (h_X5_need t0 μ) (fun n a μ1 => some (n + 1, zr a, μ1)) fun μ1 =>
  zlet (hG μ1 502 0) fun v2 =>
  hcvT (h_X6_jumps x1 μ1) (fun n a μ3 => some (n + 1, zr a, μ3)) fun μ3 =>
  hwl (hS μ3 502 0 (zadd v2 1)) fun μ4 =>
  hcvT (h_X6_link x1 μ4) (fun n a μ5 => some (n + 1, zr a, μ5)) fun μ5 =>
  zlet (hG μ5 204 0) fun v7 =>
  hwl (hS μ5 204 0 (zadd v7 1)) fun μ8 =>
  some (0, ((3, 0) : zV), μ8)
theorem eh_X6_process_96 {B : Nat} {τ : zM} {x1 t0 : Int} {μ : cM} (h : cOK B τ μ.2) : hR (hf B) (hp B τ) (f_X6_process_96 (cad B 5 0) x1 t0 (cw B μ)) (h_X6_process_96 x1 t0 μ) := by
  unfold f_X6_process_96 h_X6_process_96
  refine hx_cvT (eh_X5_need h) (fun n a μ1 h => hx_some rfl h) (fun μ1 h => ?_)
  refine he_gs h (f := 502) (c := 5) (o := 0) ⟨rfl, by decide, by decide⟩ rfl (fun v2 => ?_)
  refine hx_is h ⟨rfl, by decide, by decide⟩ ?_
  refine hx_cvT (eh_X6_jumps h) (fun n a μ3 h => hx_some rfl h) (fun μ3 h => ?_)
  refine he_ps h (f := 502) (c := 5) (o := 0) ⟨rfl, by decide, by decide⟩ rfl (fun μ4 h => ?_)
  refine hx_is h ⟨rfl, by decide, by decide⟩ ?_
  refine hx_cvT (eh_X6_link h) (fun n a μ5 h => hx_some rfl h) (fun μ5 h => ?_)
  refine he_gr h (f := 500) (c := 5) (o := 0) ⟨by decide, by decide⟩ rfl ?_
  refine he_gs h (f := 204) (c := 2) (o := 0) ⟨rfl, by decide, by decide⟩ rfl (fun v7 => ?_)
  refine he_ps h (f := 204) (c := 2) (o := 0) ⟨rfl, by decide, by decide⟩ rfl (fun μ8 h => ?_)
  first | exact hx_some rfl h | exact hx_some rfl trivial
noncomputable def h_X6_process_25 (t0 : Int) (μ : cM) : Option cO :=
  hcvT (h_X5_need t0 μ) (fun n a μ1 => some (n + 1, zr a, μ1)) fun μ1 =>
  zlet (hG μ1 502 0) fun v2 =>
  hwl (hS μ1 502 0 (zadd v2 1)) fun μ3 =>
  zlet (hG μ3 204 0) fun v7 =>
  (hrt v7).bind fun v8 =>
  hwl (hS μ3 607 0 v8) fun μ9 =>
  zlet (hG μ9 607 0) fun v10 =>
  (hnn v10).bind fun q1 =>
  hcv (h_X4_clear v10 μ9) fun μ11 =>
  zlet (hG μ11 606 0) fun v12 =>
  zlet (hG μ11 607 0) fun v13 =>
  hcrT (h_G_X6_bodies 40 1 [(-1), 0] μ11) (fun n a μ15 => some (n + 1, zr a, μ15)) fun v14 μ15 =>
  (hnn v13).bind fun q2 =>
  hwl (hS μ15 400 v13 v14) fun μ16 =>
  hci (h_X5_now 0 μ16) fun v17 μ18 =>
  if v17 ≠ 125 then
    h_X6_process_96 v12 0 μ18
  else
    h_X6_process_96 v12 1 μ18
theorem eh_X6_process_25 {B : Nat} {τ : zM} {t0 : Int} {μ : cM} (h : cOK B τ μ.2) : hR (hf B) (hp B τ) (f_X6_process_25 (cad B 5 0) t0 (cw B μ)) (h_X6_process_25 t0 μ) := by
  unfold f_X6_process_25 h_X6_process_25
  refine hx_cvT (eh_X5_need h) (fun n a μ1 h => hx_some rfl h) (fun μ1 h => ?_)
  refine he_gs h (f := 502) (c := 5) (o := 0) ⟨rfl, by decide, by decide⟩ rfl (fun v2 => ?_)
  refine he_ps h (f := 502) (c := 5) (o := 0) ⟨rfl, by decide, by decide⟩ rfl (fun μ3 h => ?_)
  refine he_gr h (f := 500) (c := 5) (o := 0) ⟨by decide, by decide⟩ rfl ?_
  refine he_gA h (f := 206) (c := 2) (o := 0) ⟨rfl, by decide⟩ rfl ?_
  refine he_gr h (f := 500) (c := 5) (o := 0) ⟨by decide, by decide⟩ rfl ?_
  refine he_gs h (f := 204) (c := 2) (o := 0) ⟨rfl, by decide, by decide⟩ rfl (fun v7 => ?_)
  refine he_rt h (fun v8 hqv8 => ?_)
  refine he_p7 h hqv8 (fun μ9 h => ?_)
  refine he_g7 h (fun v10 => ?_)
  refine hx_nnI (fun hn => ?_)
  rw [radr_ne hn]
  refine hx_is h ⟨rfl, by decide, by decide⟩ ?_
  refine hx_cv (eh_X4_clear h) (fun μ11 h => ?_)
  refine he_gs h (f := 606) (c := 5) (o := 0) ⟨rfl, by decide, by decide⟩ rfl (fun v12 => ?_)
  refine he_g7 h (fun v13 => ?_)
  refine hx_crT ((eh_G_X6_bodies B τ 40).2.1 h) (fun n a μ15 h => hx_some rfl h) (fun v14 μ15 h => ?_)
  refine hx_nnP (fun hn => ?_)
  rw [radr_ne hn]
  refine he_ps h (f := 400) (c := 4) (o := v13) ⟨rfl, by decide, by decide⟩ rfl (fun μ16 h => ?_)
  refine hx_is h ⟨rfl, by decide, by decide⟩ ?_
  refine hx_ci (eh_X5_now h) (fun v17 μ18 h => ?_)
  refine hx_if ?_ ?_
  · exact (eh_X6_process_96 h)
  · exact (eh_X6_process_96 h)
noncomputable def h_X6_process_24 (μ : cM) : Option cO :=
  h_X6_process_25 0 μ
theorem eh_X6_process_24 {B : Nat} {τ : zM} {μ : cM} (h : cOK B τ μ.2) : hR (hf B) (hp B τ) (f_X6_process_24 (cad B 5 0) (cw B μ)) (h_X6_process_24  μ) := by
  unfold f_X6_process_24 h_X6_process_24
  exact (eh_X6_process_25 h)
noncomputable def h_X6_process (μ : cM) : Option cO :=
  hci (h_X5_now 0 μ) fun v1 μ2 =>
  if v1 ≠ 123 then
    h_X6_process_24 μ2
  else
    zlet (hG μ2 204 0) fun v4 =>
    if 4 ≤ v4 then
      h_X6_process_24 μ2
    else
      h_X6_process_25 1 μ2
theorem eh_X6_process {B : Nat} {τ : zM} {μ : cM} (h : cOK B τ μ.2) : hR (hf B) (hp B τ) (f_X6_process (cad B 5 0) (cw B μ)) (h_X6_process  μ) := by
  unfold f_X6_process h_X6_process
  refine hx_is h ⟨rfl, by decide, by decide⟩ ?_
  refine hx_ci (eh_X5_now h) (fun v1 μ2 h => ?_)
  refine hx_if ?_ ?_
  · exact (eh_X6_process_24 h)
  · refine he_gr h (f := 500) (c := 5) (o := 0) ⟨by decide, by decide⟩ rfl ?_
    refine he_gs h (f := 204) (c := 2) (o := 0) ⟨rfl, by decide, by decide⟩ rfl (fun v4 => ?_)
    refine hx_if ?_ ?_
    · exact (eh_X6_process_24 h)
    · exact (eh_X6_process_25 h)
noncomputable def h_X6_read_49 (μ : cM) : Option cO :=
  some (0, ((3, 0) : zV), μ)
theorem eh_X6_read_49 {B : Nat} {τ : zM} {μ : cM} (h : cOK B τ μ.2) : hR (hf B) (hp B τ) (f_X6_read_49  (cw B μ)) (h_X6_read_49  μ) := by
  unfold f_X6_read_49 h_X6_read_49
  first | exact hx_some rfl h | exact hx_some rfl trivial
noncomputable def h_X6_read_28_b (μ : cM) : Option ((cM) ⊕ cO) :=
  zlet (hG μ 502 0) fun v1 =>
  zlet (hG μ 501 0) fun v2 =>
  zgd (zis μ.2 22 v2) <|
  hci (h_J2_length v2 μ) fun v3 μ4 =>
  if v3 ≤ v1 then
    (h_X6_read_49 μ4).map (fun r => (.inr r))
  else
    hcvT (h_X6_process μ4) (fun n a μ5 => some (.inr (n + 1, zr a, μ5))) fun μ5 =>
    some (.inl μ5)
theorem eh_X6_read_28_b {B : Nat} {τ : zM} {μ : cM} (h : cOK B τ μ.2) : hR (Sum.map (cw B) (hf B)) (Sum.elim (fun s : cM => cOK B τ s.2) (hp B τ)) (f_X6_read_28_b (cad B 5 0) (cw B μ)) (h_X6_read_28_b  μ) := by
  unfold f_X6_read_28_b h_X6_read_28_b
  refine he_gs h (f := 502) (c := 5) (o := 0) ⟨rfl, by decide, by decide⟩ rfl (fun v1 => ?_)
  refine he_gs h (f := 501) (c := 5) (o := 0) ⟨rfl, by decide, by decide⟩ rfl (fun v2 => ?_)
  refine hx_gd ?_
  refine hx_ci (eh_J2_length h) (fun v3 μ4 h => ?_)
  refine hx_if ?_ ?_
  · exact hx_map (eh_X6_read_49 h) (fun r => rfl) (fun r q => q)
  · refine hx_is h ⟨rfl, by decide, by decide⟩ ?_
    refine hx_cvT (eh_X6_process h) (fun n a μ5 h => hx_some rfl h) (fun μ5 h => ?_)
    first | exact hx_some rfl h | exact hx_some rfl trivial
noncomputable def h_X6_read_28 (μ : cM) : Option cO :=
  zloop (fun s : cM => h_X6_read_28_b  s) μ
theorem eh_X6_read_28 {B : Nat} {τ : zM} {μ : cM} (h : cOK B τ μ.2) : hR (hf B) (hp B τ) (f_X6_read_28 (cad B 5 0) (cw B μ)) (h_X6_read_28  μ) := by
  unfold f_X6_read_28 h_X6_read_28
  refine hx_loop (φ := (cw B)) (Ps := (fun s : cM => cOK B τ s.2)) (s := μ) h (fun s hs => ?_)
  exact eh_X6_read_28_b hs
noncomputable def h_X6_read_12_b (μ : cM) : Option ((cM) ⊕ cO) :=
  hci (h_X5_now 0 μ) fun v1 μ2 =>
  if v1 = 123 then
    (h_X6_read_28 μ2).map (fun r => (.inr r))
  else
    hcvT (h_X6_declaration μ2) (fun n a μ3 => some (.inr (n + 1, zr a, μ3))) fun μ3 =>
    some (.inl μ3)
theorem eh_X6_read_12_b {B : Nat} {τ : zM} {μ : cM} (h : cOK B τ μ.2) : hR (Sum.map (cw B) (hf B)) (Sum.elim (fun s : cM => cOK B τ s.2) (hp B τ)) (f_X6_read_12_b (cad B 5 0) (cw B μ)) (h_X6_read_12_b  μ) := by
  unfold f_X6_read_12_b h_X6_read_12_b
  refine hx_is h ⟨rfl, by decide, by decide⟩ ?_
  refine hx_ci (eh_X5_now h) (fun v1 μ2 h => ?_)
  refine hx_if ?_ ?_
  · exact hx_map (eh_X6_read_28 h) (fun r => rfl) (fun r q => q)
  · refine hx_is h ⟨rfl, by decide, by decide⟩ ?_
    refine hx_cvT (eh_X6_declaration h) (fun n a μ3 h => hx_some rfl h) (fun μ3 h => ?_)
    first | exact hx_some rfl h | exact hx_some rfl trivial
noncomputable def h_X6_read_12 (μ : cM) : Option cO :=
  zloop (fun s : cM => h_X6_read_12_b  s) μ
theorem eh_X6_read_12 {B : Nat} {τ : zM} {μ : cM} (h : cOK B τ μ.2) : hR (hf B) (hp B τ) (f_X6_read_12 (cad B 5 0) (cw B μ)) (h_X6_read_12  μ) := by
  unfold f_X6_read_12 h_X6_read_12
  refine hx_loop (φ := (cw B)) (Ps := (fun s : cM => cOK B τ s.2)) (s := μ) h (fun s hs => ?_)
  exact eh_X6_read_12_b hs
noncomputable def h_X6_read (μ : cM) : Option cO :=
  hwl (hS μ 606 0 0) fun μ1 =>
  hcv (h_X2_clear μ1) fun μ3 =>
  h_X6_read_12 μ3
theorem eh_X6_read {B : Nat} {τ : zM} {μ : cM} (h : cOK B τ μ.2) : hR (hf B) (hp B τ) (f_X6_read (cad B 5 0) (cw B μ)) (h_X6_read  μ) := by
  unfold f_X6_read h_X6_read
  refine he_ps h (f := 606) (c := 5) (o := 0) ⟨rfl, by decide, by decide⟩ rfl (fun μ1 h => ?_)
  refine he_gr h (f := 500) (c := 5) (o := 0) ⟨by decide, by decide⟩ rfl ?_
  refine hx_is h ⟨rfl, by decide, by decide⟩ ?_
  refine hx_cv (eh_X2_clear h) (fun μ3 h => ?_)
  exact (eh_X6_read_12 h)
noncomputable def h_X2_packed_151 (x2 : Int) (μ : cM) : Option cO :=
  some (0, zj x2, μ)
theorem eh_X2_packed_151 {B : Nat} {τ : zM} {x2 : Int} {μ : cM} (h : cOK B τ μ.2) : hR (hf B) (hp B τ) (f_X2_packed_151 x2 (cw B μ)) (h_X2_packed_151 x2 μ) := by
  unfold f_X2_packed_151 h_X2_packed_151
  first | exact hx_some rfl h | exact hx_some rfl trivial
noncomputable def h_X2_packed_145 (x1 x2 x4 : Int) (μ : cM) : Option ((Int × Int) ⊕ cO) :=
  zlet (zadd x4 1) fun y1 =>
  some (.inl (x2, y1))
theorem eh_X2_packed_145 {B : Nat} {τ : zM} {x1 x2 x4 : Int} {μ : cM} (h : cOK B τ μ.2) : hR (Sum.map id (hf B)) (Sum.elim (fun _ : Int × Int => True) (hp B τ)) (f_X2_packed_145 (cad B 2 0) (cad B 3 x1) x2 x4 (cw B μ)) (h_X2_packed_145 x1 x2 x4 μ) := by
  unfold f_X2_packed_145 h_X2_packed_145
  refine hx_let (fun y1 => ?_)
  first | exact hx_some rfl h | exact hx_some rfl trivial
noncomputable def h_X2_packed_132 (x1 x2 x4 : Int) (μ : cM) : Option ((Int × Int) ⊕ cO) :=
  (hga μ 300 x1 x4).bind fun v2 =>
  zlet ((jor (jshl x2 2) v2)) fun y3 =>
  h_X2_packed_145 x1 y3 x4 μ
theorem eh_X2_packed_132 {B : Nat} {τ : zM} {x1 x2 x4 : Int} {μ : cM} (h : cOK B τ μ.2) : hR (Sum.map id (hf B)) (Sum.elim (fun _ : Int × Int => True) (hp B τ)) (f_X2_packed_132 (cad B 2 0) (cad B 3 x1) x2 x4 (cw B μ)) (h_X2_packed_132 x1 x2 x4 μ) := by
  unfold f_X2_packed_132 h_X2_packed_132
  refine he_gA h (f := 300) (c := 3) (o := x1) ⟨rfl, by decide⟩ rfl ?_
  refine he_ga h (f := 300) (o := x1) ⟨⟨rfl, by decide, by decide⟩, rfl⟩ (fun v2 => ?_)
  refine hx_let (fun y3 => ?_)
  exact (eh_X2_packed_145 h)
noncomputable def h_X2_packed_123 (x1 x4 x5 t0 t1 : Int) (μ : cM) : Option ((Int × Int) ⊕ ((Int × Int) ⊕ cO)) :=
  zlet ((jor t1 t0)) fun y1 =>
  zlet (zadd x5 1) fun y2 =>
  some (.inl (y1, y2))
theorem eh_X2_packed_123 {B : Nat} {τ : zM} {x1 x4 x5 t0 t1 : Int} {μ : cM} (h : cOK B τ μ.2) : hR (Sum.map id (Sum.map id (hf B))) (Sum.elim (fun _ : Int × Int => True) (Sum.elim (fun _ : Int × Int => True) (hp B τ))) (f_X2_packed_123 (cad B 2 0) (cad B 3 x1) x4 x5 t0 t1 (cw B μ)) (h_X2_packed_123 x1 x4 x5 t0 t1 μ) := by
  unfold f_X2_packed_123 h_X2_packed_123
  refine hx_let (fun y1 => ?_)
  refine hx_let (fun y2 => ?_)
  first | exact hx_some rfl h | exact hx_some rfl trivial
noncomputable def h_X2_packed_88_b (x1 x2 x4 x5 : Int) (μ : cM) : Option ((Int × Int) ⊕ ((Int × Int) ⊕ cO)) :=
  if 3 ≤ x5 then
    (h_X2_packed_132 x1 x2 x4 μ).map (fun r => (.inr r))
  else
    (hga μ 300 x1 x4).bind fun v2 =>
    if v2 ≤ x5 then
      h_X2_packed_123 x1 x4 x5 0 (jshl x2 3) μ
    else
      (hqr x4).bind fun v4 =>
      (hgq μ x1 v4 x5).bind fun v5 =>
      h_X2_packed_123 x1 x4 x5 v5 (jshl x2 3) μ
theorem eh_X2_packed_88_b {B : Nat} {τ : zM} {x1 x2 x4 x5 : Int} {μ : cM} (h : cOK B τ μ.2) : hR (Sum.map id (Sum.map id (hf B))) (Sum.elim (fun _ : Int × Int => True) (Sum.elim (fun _ : Int × Int => True) (hp B τ))) (f_X2_packed_88_b (cad B 2 0) (cad B 3 x1) x2 x4 x5 (cw B μ)) (h_X2_packed_88_b x1 x2 x4 x5 μ) := by
  unfold f_X2_packed_88_b h_X2_packed_88_b
  refine hx_if ?_ ?_
  · exact hx_map (eh_X2_packed_132 h) (fun r => rfl) (fun r q => q)
  · refine he_gA h (f := 300) (c := 3) (o := x1) ⟨rfl, by decide⟩ rfl ?_
    refine he_ga h (f := 300) (o := x1) ⟨⟨rfl, by decide, by decide⟩, rfl⟩ (fun v2 => ?_)
    refine hx_if ?_ ?_
    · exact (eh_X2_packed_123 h)
    · refine he_gA h (f := 301) (c := 3) (o := x1) ⟨rfl, by decide⟩ rfl ?_
      refine he_qr h (fun v4 => ?_)
      refine he_gq h (fun v5 => ?_)
      exact (eh_X2_packed_123 h)
noncomputable def h_X2_packed_88 (x1 x2 x4 x5 : Int) (μ : cM) : Option ((Int × Int) ⊕ cO) :=
  zloop (fun s : Int × Int => h_X2_packed_88_b x1 s.1 x4 s.2 μ) (x2, x5)
theorem eh_X2_packed_88 {B : Nat} {τ : zM} {x1 x2 x4 x5 : Int} {μ : cM} (h : cOK B τ μ.2) : hR (Sum.map id (hf B)) (Sum.elim (fun _ : Int × Int => True) (hp B τ)) (f_X2_packed_88 (cad B 2 0) (cad B 3 x1) x2 x4 x5 (cw B μ)) (h_X2_packed_88 x1 x2 x4 x5 μ) := by
  unfold f_X2_packed_88 h_X2_packed_88
  refine hx_loop (φ := id) (Ps := (fun _ : Int × Int => True)) (s := (x2, x5)) trivial (fun s hs => ?_)
  exact eh_X2_packed_88_b h
noncomputable def h_X2_packed_71 (x1 x2 x4 : Int) (μ : cM) : Option ((Int × Int) ⊕ cO) :=
  (hga μ 200 0 x4).bind fun v2 =>
  if v2 = 2 then
    h_X2_packed_88 x1 x2 x4 0 μ
  else
    h_X2_packed_145 x1 x2 x4 μ
theorem eh_X2_packed_71 {B : Nat} {τ : zM} {x1 x2 x4 : Int} {μ : cM} (h : cOK B τ μ.2) : hR (Sum.map id (hf B)) (Sum.elim (fun _ : Int × Int => True) (hp B τ)) (f_X2_packed_71 (cad B 2 0) (cad B 3 x1) x2 x4 (cw B μ)) (h_X2_packed_71 x1 x2 x4 μ) := by
  unfold f_X2_packed_71 h_X2_packed_71
  refine he_gA h (f := 200) (c := 2) (o := 0) ⟨rfl, by decide⟩ rfl ?_
  refine he_ga h (f := 200) (o := 0) ⟨⟨rfl, by decide, by decide⟩, rfl⟩ (fun v2 => ?_)
  refine hx_if ?_ ?_
  · exact (eh_X2_packed_88 h)
  · exact (eh_X2_packed_145 h)
noncomputable def h_X2_packed_40_b (x1 x2 x4 : Int) (μ : cM) : Option ((Int × Int) ⊕ cO) :=
  if 8 ≤ x4 then
    (h_X2_packed_151 x2 μ).map (fun r => (.inr r))
  else
    (hga μ 200 0 x4).bind fun v2 =>
    if v2 ≠ 1 then
      h_X2_packed_71 x1 x2 x4 μ
    else
      (hga μ 300 x1 x4).bind fun v4 =>
      zlet ((jor (jshl x2 3) v4)) fun y5 =>
      h_X2_packed_71 x1 y5 x4 μ
theorem eh_X2_packed_40_b {B : Nat} {τ : zM} {x1 x2 x4 : Int} {μ : cM} (h : cOK B τ μ.2) : hR (Sum.map id (hf B)) (Sum.elim (fun _ : Int × Int => True) (hp B τ)) (f_X2_packed_40_b (cad B 2 0) (cad B 3 x1) x2 x4 (cw B μ)) (h_X2_packed_40_b x1 x2 x4 μ) := by
  unfold f_X2_packed_40_b h_X2_packed_40_b
  refine hx_if ?_ ?_
  · exact hx_map (eh_X2_packed_151 h) (fun r => rfl) (fun r q => q)
  · refine he_gA h (f := 200) (c := 2) (o := 0) ⟨rfl, by decide⟩ rfl ?_
    refine he_ga h (f := 200) (o := 0) ⟨⟨rfl, by decide, by decide⟩, rfl⟩ (fun v2 => ?_)
    refine hx_if ?_ ?_
    · exact (eh_X2_packed_71 h)
    · refine he_gA h (f := 300) (c := 3) (o := x1) ⟨rfl, by decide⟩ rfl ?_
      refine he_ga h (f := 300) (o := x1) ⟨⟨rfl, by decide, by decide⟩, rfl⟩ (fun v4 => ?_)
      refine hx_let (fun y5 => ?_)
      exact (eh_X2_packed_71 h)
noncomputable def h_X2_packed_40 (x1 x2 x4 : Int) (μ : cM) : Option cO :=
  zloop (fun s : Int × Int => h_X2_packed_40_b x1 s.1 s.2 μ) (x2, x4)
theorem eh_X2_packed_40 {B : Nat} {τ : zM} {x1 x2 x4 : Int} {μ : cM} (h : cOK B τ μ.2) : hR (hf B) (hp B τ) (f_X2_packed_40 (cad B 2 0) (cad B 3 x1) x2 x4 (cw B μ)) (h_X2_packed_40 x1 x2 x4 μ) := by
  unfold f_X2_packed_40 h_X2_packed_40
  refine hx_loop (φ := id) (Ps := (fun _ : Int × Int => True)) (s := (x2, x4)) trivial (fun s hs => ?_)
  exact eh_X2_packed_40_b h
noncomputable def h_X2_packed_37 (x1 x2 : Int) (μ : cM) : Option cO :=
  h_X2_packed_40 x1 x2 0 μ
theorem eh_X2_packed_37 {B : Nat} {τ : zM} {x1 x2 : Int} {μ : cM} (h : cOK B τ μ.2) : hR (hf B) (hp B τ) (f_X2_packed_37 (cad B 2 0) (cad B 3 x1) x2 (cw B μ)) (h_X2_packed_37 x1 x2 μ) := by
  unfold f_X2_packed_37 h_X2_packed_37
  exact (eh_X2_packed_40 h)
noncomputable def h_X2_packed_9_b (x1 x2 x4 : Int) (μ : cM) : Option ((Int × Int) ⊕ cO) :=
  zlet (hG μ 204 0) fun v1 =>
  if v1 ≤ x4 then
    (h_X2_packed_37 x1 x2 μ).map (fun r => (.inr r))
  else
    (hga μ 302 x1 x4).bind fun v3 =>
    zlet ((jor (jshl x2 5) v3)) fun y4 =>
    zlet (zadd x4 1) fun y5 =>
    some (.inl (y4, y5))
theorem eh_X2_packed_9_b {B : Nat} {τ : zM} {x1 x2 x4 : Int} {μ : cM} (h : cOK B τ μ.2) : hR (Sum.map id (hf B)) (Sum.elim (fun _ : Int × Int => True) (hp B τ)) (f_X2_packed_9_b (cad B 2 0) (cad B 3 x1) x2 x4 (cw B μ)) (h_X2_packed_9_b x1 x2 x4 μ) := by
  unfold f_X2_packed_9_b h_X2_packed_9_b
  refine he_gs h (f := 204) (c := 2) (o := 0) ⟨rfl, by decide, by decide⟩ rfl (fun v1 => ?_)
  refine hx_if ?_ ?_
  · exact hx_map (eh_X2_packed_37 h) (fun r => rfl) (fun r q => q)
  · refine he_gA h (f := 302) (c := 3) (o := x1) ⟨rfl, by decide⟩ rfl ?_
    refine he_ga h (f := 302) (o := x1) ⟨⟨rfl, by decide, by decide⟩, rfl⟩ (fun v3 => ?_)
    refine hx_let (fun y4 => ?_)
    refine hx_let (fun y5 => ?_)
    first | exact hx_some rfl h | exact hx_some rfl trivial
noncomputable def h_X2_packed_9 (x1 x2 x4 : Int) (μ : cM) : Option cO :=
  zloop (fun s : Int × Int => h_X2_packed_9_b x1 s.1 s.2 μ) (x2, x4)
theorem eh_X2_packed_9 {B : Nat} {τ : zM} {x1 x2 x4 : Int} {μ : cM} (h : cOK B τ μ.2) : hR (hf B) (hp B τ) (f_X2_packed_9 (cad B 2 0) (cad B 3 x1) x2 x4 (cw B μ)) (h_X2_packed_9 x1 x2 x4 μ) := by
  unfold f_X2_packed_9 h_X2_packed_9
  refine hx_loop (φ := id) (Ps := (fun _ : Int × Int => True)) (s := (x2, x4)) trivial (fun s hs => ?_)
  exact eh_X2_packed_9_b h
noncomputable def h_X2_packed (x1 : Int) (μ : cM) : Option cO :=
  zlet (hG μ 303 x1) fun v1 =>
  h_X2_packed_9 x1 v1 0 μ
theorem eh_X2_packed {B : Nat} {τ : zM} {x1 : Int} {μ : cM} (h : cOK B τ μ.2) : hR (hf B) (hp B τ) (f_X2_packed (cad B 2 0) (cad B 3 x1) (cw B μ)) (h_X2_packed x1 μ) := by
  unfold f_X2_packed h_X2_packed
  refine he_gs h (f := 303) (c := 3) (o := x1) ⟨rfl, by decide, by decide⟩ rfl (fun v1 => ?_)
  exact (eh_X2_packed_9 h)
noncomputable def h_X2_find_117 (x3 : Int) (μ : cM) : Option cO :=
  (hga μ 214 0 x3).bind fun v2 =>
  some (0, zi (zsub v2 1), μ)
theorem eh_X2_find_117 {B : Nat} {τ : zM} {x3 : Int} {μ : cM} (h : cOK B τ μ.2) : hR (hf B) (hp B τ) (f_X2_find_117 (cad B 2 0) x3 (cw B μ)) (h_X2_find_117 x3 μ) := by
  unfold f_X2_find_117 h_X2_find_117
  refine he_gA h (f := 214) (c := 2) (o := 0) ⟨rfl, by decide⟩ rfl ?_
  refine he_ga h (f := 214) (o := 0) ⟨⟨rfl, by decide, by decide⟩, rfl⟩ (fun v2 => ?_)
  first | exact hx_some rfl h | exact hx_some rfl trivial
noncomputable def h_X2_find_61 (x1 x3 : Int) (μ : cM) : Option cO :=
  (hga μ 214 0 x3).bind fun v2 =>
  if v2 ≠ 0 then
    h_X2_find_117 x3 μ
  else
    zlet (hG μ 220 0) fun v3 =>
    if v3 ≠ 96 then
      zlet (hG μ 220 0) fun v5 =>
      (hpa μ 213 0 v5 x1).bind fun μ6 =>
      zlet (hG μ6 220 0) fun v7 =>
      hwl (hS μ6 220 0 (zadd v7 1)) fun μ8 =>
      zlet (hG μ8 220 0) fun v10 =>
      (hpa μ8 214 0 x3 v10).bind fun μ11 =>
      h_X2_find_117 x3 μ11
    else
      (hup μ (znX μ.2 53)).bind fun μ12 =>
      zgd (zis μ12.2 53 (↑(zN μ.2) : Int)) <|
      some (3, zr (↑(zN μ.2) : Int), μ12)
theorem eh_X2_find_61 {B : Nat} {τ : zM} {x1 x3 : Int} {μ : cM} (h : cOK B τ μ.2) : hR (hf B) (hp B τ) (f_X2_find_61 (cad B 2 0) x1 x3 (cw B μ)) (h_X2_find_61 x1 x3 μ) := by
  unfold f_X2_find_61 h_X2_find_61
  refine he_gA h (f := 214) (c := 2) (o := 0) ⟨rfl, by decide⟩ rfl ?_
  refine he_ga h (f := 214) (o := 0) ⟨⟨rfl, by decide, by decide⟩, rfl⟩ (fun v2 => ?_)
  refine hx_if ?_ ?_
  · exact (eh_X2_find_117 h)
  · refine he_gs h (f := 220) (c := 2) (o := 0) ⟨rfl, by decide, by decide⟩ rfl (fun v3 => ?_)
    refine hx_if ?_ ?_
    · refine he_gA h (f := 213) (c := 2) (o := 0) ⟨rfl, by decide⟩ rfl ?_
      refine he_gs h (f := 220) (c := 2) (o := 0) ⟨rfl, by decide, by decide⟩ rfl (fun v5 => ?_)
      refine he_pa h (f := 213) (o := 0) ⟨⟨rfl, by decide, by decide⟩, rfl⟩ (fun μ6 h => ?_)
      refine he_gs h (f := 220) (c := 2) (o := 0) ⟨rfl, by decide, by decide⟩ rfl (fun v7 => ?_)
      refine he_ps h (f := 220) (c := 2) (o := 0) ⟨rfl, by decide, by decide⟩ rfl (fun μ8 h => ?_)
      refine he_gA h (f := 214) (c := 2) (o := 0) ⟨rfl, by decide⟩ rfl ?_
      refine he_gs h (f := 220) (c := 2) (o := 0) ⟨rfl, by decide, by decide⟩ rfl (fun v10 => ?_)
      refine he_pa h (f := 214) (o := 0) ⟨⟨rfl, by decide, by decide⟩, rfl⟩ (fun μ11 h => ?_)
      exact (eh_X2_find_117 h)
    · refine he_nX h (fun μ12 h => ?_)
      refine hx_gd ?_
      first | exact hx_some rfl h | exact hx_some rfl trivial
noncomputable def h_X2_find_21_b (x1 x3 : Int) (μ : cM) : Option ((Int) ⊕ cO) :=
  (hga μ 214 0 x3).bind fun v2 =>
  if v2 = 0 then
    (h_X2_find_61 x1 x3 μ).map (fun r => (.inr r))
  else
    (hga μ 214 0 x3).bind fun v5 =>
    (hga μ 213 0 (zsub v5 1)).bind fun v6 =>
    if (zlcmp v6 x1) = 0 then
      (h_X2_find_61 x1 x3 μ).map (fun r => (.inr r))
    else
      zlet (alen 214 : Int) fun v8 =>
      zgd (znz v8) <|
      zlet ((zrem (zadd x3 1) v8)) fun y9 =>
      some (.inl y9)
theorem eh_X2_find_21_b {B : Nat} {τ : zM} {x1 x3 : Int} {μ : cM} (h : cOK B τ μ.2) : hR (Sum.map id (hf B)) (Sum.elim (fun _ : Int => True) (hp B τ)) (f_X2_find_21_b (cad B 2 0) x1 x3 (cw B μ)) (h_X2_find_21_b x1 x3 μ) := by
  unfold f_X2_find_21_b h_X2_find_21_b
  refine he_gA h (f := 214) (c := 2) (o := 0) ⟨rfl, by decide⟩ rfl ?_
  refine he_ga h (f := 214) (o := 0) ⟨⟨rfl, by decide, by decide⟩, rfl⟩ (fun v2 => ?_)
  refine hx_if ?_ ?_
  · exact hx_map (eh_X2_find_61 h) (fun r => rfl) (fun r q => q)
  · refine he_gA h (f := 213) (c := 2) (o := 0) ⟨rfl, by decide⟩ rfl ?_
    refine he_gA h (f := 214) (c := 2) (o := 0) ⟨rfl, by decide⟩ rfl ?_
    refine he_ga h (f := 214) (o := 0) ⟨⟨rfl, by decide, by decide⟩, rfl⟩ (fun v5 => ?_)
    refine he_ga h (f := 213) (o := 0) ⟨⟨rfl, by decide, by decide⟩, rfl⟩ (fun v6 => ?_)
    refine hx_if ?_ ?_
    · exact hx_map (eh_X2_find_61 h) (fun r => rfl) (fun r q => q)
    · refine he_gA h (f := 214) (c := 2) (o := 0) ⟨rfl, by decide⟩ rfl ?_
      refine he_la h (f := 214) (o := 0) ⟨rfl, rfl⟩ (fun v8 => ?_)
      refine hx_gd ?_
      refine hx_let (fun y9 => ?_)
      first | exact hx_some rfl h | exact hx_some rfl trivial
noncomputable def h_X2_find_21 (x1 x3 : Int) (μ : cM) : Option cO :=
  zloop (fun s : Int => h_X2_find_21_b x1 s μ) x3
theorem eh_X2_find_21 {B : Nat} {τ : zM} {x1 x3 : Int} {μ : cM} (h : cOK B τ μ.2) : hR (hf B) (hp B τ) (f_X2_find_21 (cad B 2 0) x1 x3 (cw B μ)) (h_X2_find_21 x1 x3 μ) := by
  unfold f_X2_find_21 h_X2_find_21
  refine hx_loop (φ := id) (Ps := (fun _ : Int => True)) (s := x3) trivial (fun s hs => ?_)
  exact eh_X2_find_21_b h
noncomputable def h_X2_find (x1 : Int) (μ : cM) : Option cO :=
  zlet (alen 214 : Int) fun v2 =>
  zgd (znz v2) <|
  zlet ((zrem (zl2i (jushr (jmul (jxor x1 (jushr x1 29)) (-7046029254386353131)) 40)) v2)) fun y3 =>
  h_X2_find_21 x1 y3 μ
theorem eh_X2_find {B : Nat} {τ : zM} {x1 : Int} {μ : cM} (h : cOK B τ μ.2) : hR (hf B) (hp B τ) (f_X2_find (cad B 2 0) x1 (cw B μ)) (h_X2_find x1 μ) := by
  unfold f_X2_find h_X2_find
  refine he_gA h (f := 214) (c := 2) (o := 0) ⟨rfl, by decide⟩ rfl ?_
  refine he_la h (f := 214) (o := 0) ⟨rfl, rfl⟩ (fun v2 => ?_)
  refine hx_gd ?_
  refine hx_let (fun y3 => ?_)
  exact (eh_X2_find_21 h)
noncomputable def h_X2_unpack_154 (x2 x3 : Int) (μ : cM) : Option cO :=
  hwl (hS μ 303 x2 (zl2i x3)) fun μ1 =>
  some (0, ((3, 0) : zV), μ1)
theorem eh_X2_unpack_154 {B : Nat} {τ : zM} {x2 x3 : Int} {μ : cM} (h : cOK B τ μ.2) : hR (hf B) (hp B τ) (f_X2_unpack_154 (cad B 3 x2) x3 (cw B μ)) (h_X2_unpack_154 x2 x3 μ) := by
  unfold f_X2_unpack_154 h_X2_unpack_154
  refine he_ps h (f := 303) (c := 3) (o := x2) ⟨rfl, by decide, by decide⟩ rfl (fun μ1 h => ?_)
  first | exact hx_some rfl h | exact hx_some rfl trivial
noncomputable def h_X2_unpack_127_b (x2 x3 x5 : Int) (μ : cM) : Option ((Int × Int × cM) ⊕ cO) :=
  if x5 < 0 then
    (h_X2_unpack_154 x2 x3 μ).map (fun r => (.inr r))
  else
    (hpa μ 302 x2 x5 (zand (zl2i x3) 31)).bind fun μ2 =>
    zlet ((jshr x3 5)) fun y3 =>
    zlet (zadd x5 (-1)) fun y4 =>
    some (.inl (y3, y4, μ2))
theorem eh_X2_unpack_127_b {B : Nat} {τ : zM} {x2 x3 x5 : Int} {μ : cM} (h : cOK B τ μ.2) : hR (Sum.map (fun s => (s.1, s.2.1, cw B s.2.2)) (hf B)) (Sum.elim (fun s : Int × Int × cM => cOK B τ s.2.2.2) (hp B τ)) (f_X2_unpack_127_b (cad B 3 x2) x3 x5 (cw B μ)) (h_X2_unpack_127_b x2 x3 x5 μ) := by
  unfold f_X2_unpack_127_b h_X2_unpack_127_b
  refine hx_if ?_ ?_
  · exact hx_map (eh_X2_unpack_154 h) (fun r => rfl) (fun r q => q)
  · refine he_gA h (f := 302) (c := 3) (o := x2) ⟨rfl, by decide⟩ rfl ?_
    refine he_pa h (f := 302) (o := x2) ⟨⟨rfl, by decide, by decide⟩, rfl⟩ (fun μ2 h => ?_)
    refine hx_let (fun y3 => ?_)
    refine hx_let (fun y4 => ?_)
    first | exact hx_some rfl h | exact hx_some rfl trivial
noncomputable def h_X2_unpack_127 (x2 x3 x5 : Int) (μ : cM) : Option cO :=
  zloop (fun s : Int × Int × cM => h_X2_unpack_127_b x2 s.1 s.2.1 s.2.2) (x3, x5, μ)
theorem eh_X2_unpack_127 {B : Nat} {τ : zM} {x2 x3 x5 : Int} {μ : cM} (h : cOK B τ μ.2) : hR (hf B) (hp B τ) (f_X2_unpack_127 (cad B 3 x2) x3 x5 (cw B μ)) (h_X2_unpack_127 x2 x3 x5 μ) := by
  unfold f_X2_unpack_127 h_X2_unpack_127
  refine hx_loop (φ := (fun s => (s.1, s.2.1, cw B s.2.2))) (Ps := (fun s : Int × Int × cM => cOK B τ s.2.2.2)) (s := (x3, x5, μ)) h (fun s hs => ?_)
  exact eh_X2_unpack_127_b hs
noncomputable def h_X2_unpack_119 (x2 x3 : Int) (μ : cM) : Option cO :=
  zlet (hG μ 204 0) fun v1 =>
  zlet ((zsub v1 1)) fun y2 =>
  h_X2_unpack_127 x2 x3 y2 μ
theorem eh_X2_unpack_119 {B : Nat} {τ : zM} {x2 x3 : Int} {μ : cM} (h : cOK B τ μ.2) : hR (hf B) (hp B τ) (f_X2_unpack_119 (cad B 2 0) (cad B 3 x2) x3 (cw B μ)) (h_X2_unpack_119 x2 x3 μ) := by
  unfold f_X2_unpack_119 h_X2_unpack_119
  refine he_gs h (f := 204) (c := 2) (o := 0) ⟨rfl, by decide, by decide⟩ rfl (fun v1 => ?_)
  refine hx_let (fun y2 => ?_)
  exact (eh_X2_unpack_127 h)
noncomputable def h_X2_unpack_113 (x2 x3 x5 : Int) (μ : cM) : Option ((Int × Int × cM) ⊕ cO) :=
  zlet (zadd x5 (-1)) fun y1 =>
  some (.inl (x3, y1, μ))
theorem eh_X2_unpack_113 {B : Nat} {τ : zM} {x2 x3 x5 : Int} {μ : cM} (h : cOK B τ μ.2) : hR (Sum.map (fun s => (s.1, s.2.1, cw B s.2.2)) (hf B)) (Sum.elim (fun s : Int × Int × cM => cOK B τ s.2.2.2) (hp B τ)) (f_X2_unpack_113 (cad B 2 0) (cad B 3 x2) x3 x5 (cw B μ)) (h_X2_unpack_113 x2 x3 x5 μ) := by
  unfold f_X2_unpack_113 h_X2_unpack_113
  refine hx_let (fun y1 => ?_)
  first | exact hx_some rfl h | exact hx_some rfl trivial
noncomputable def h_X2_unpack_83_b (x2 x3 x5 x6 : Int) (μ : cM) : Option ((Int × Int × cM) ⊕ ((Int × Int × cM) ⊕ cO)) :=
  if x6 < 0 then
    (h_X2_unpack_113 x2 x3 x5 μ).map (fun r => (.inr r))
  else
    (hqr x5).bind fun v2 =>
    (hpq μ x2 v2 x6 (zand (zl2i x3) 7)).bind fun μ3 =>
    zlet ((jshr x3 3)) fun y4 =>
    zlet (zadd x6 (-1)) fun y5 =>
    some (.inl (y4, y5, μ3))
theorem eh_X2_unpack_83_b {B : Nat} {τ : zM} {x2 x3 x5 x6 : Int} {μ : cM} (h : cOK B τ μ.2) : hR (Sum.map (fun s => (s.1, s.2.1, cw B s.2.2)) (Sum.map (fun s => (s.1, s.2.1, cw B s.2.2)) (hf B))) (Sum.elim (fun s : Int × Int × cM => cOK B τ s.2.2.2) (Sum.elim (fun s : Int × Int × cM => cOK B τ s.2.2.2) (hp B τ))) (f_X2_unpack_83_b (cad B 2 0) (cad B 3 x2) x3 x5 x6 (cw B μ)) (h_X2_unpack_83_b x2 x3 x5 x6 μ) := by
  unfold f_X2_unpack_83_b h_X2_unpack_83_b
  refine hx_if ?_ ?_
  · exact hx_map (eh_X2_unpack_113 h) (fun r => rfl) (fun r q => q)
  · refine he_gA h (f := 301) (c := 3) (o := x2) ⟨rfl, by decide⟩ rfl ?_
    refine he_qr h (fun v2 => ?_)
    refine he_pq h (fun μ3 h => ?_)
    refine hx_let (fun y4 => ?_)
    refine hx_let (fun y5 => ?_)
    first | exact hx_some rfl h | exact hx_some rfl trivial
noncomputable def h_X2_unpack_83 (x2 x3 x5 x6 : Int) (μ : cM) : Option ((Int × Int × cM) ⊕ cO) :=
  zloop (fun s : Int × Int × cM => h_X2_unpack_83_b x2 s.1 x5 s.2.1 s.2.2) (x3, x6, μ)
theorem eh_X2_unpack_83 {B : Nat} {τ : zM} {x2 x3 x5 x6 : Int} {μ : cM} (h : cOK B τ μ.2) : hR (Sum.map (fun s => (s.1, s.2.1, cw B s.2.2)) (hf B)) (Sum.elim (fun s : Int × Int × cM => cOK B τ s.2.2.2) (hp B τ)) (f_X2_unpack_83 (cad B 2 0) (cad B 3 x2) x3 x5 x6 (cw B μ)) (h_X2_unpack_83 x2 x3 x5 x6 μ) := by
  unfold f_X2_unpack_83 h_X2_unpack_83
  refine hx_loop (φ := (fun s => (s.1, s.2.1, cw B s.2.2))) (Ps := (fun s : Int × Int × cM => cOK B τ s.2.2.2)) (s := (x3, x6, μ)) h (fun s hs => ?_)
  exact eh_X2_unpack_83_b hs
noncomputable def h_X2_unpack_11_b (x2 x3 x5 : Int) (μ : cM) : Option ((Int × Int × cM) ⊕ cO) :=
  if x5 < 0 then
    (h_X2_unpack_119 x2 x3 μ).map (fun r => (.inr r))
  else
    (hpa μ 300 x2 x5 0).bind fun μ2 =>
    (hga μ2 200 0 x5).bind fun v4 =>
    if v4 ≠ 1 then
      (hga μ2 200 0 x5).bind fun v6 =>
      if v6 ≠ 2 then
        h_X2_unpack_113 x2 x3 x5 μ2
      else
        (hpa μ2 300 x2 x5 (zand (zl2i x3) 3)).bind fun μ8 =>
        zlet ((jshr x3 2)) fun y9 =>
        h_X2_unpack_83 x2 y9 x5 2 μ8
    else
      (hpa μ2 300 x2 x5 (zand (zl2i x3) 7)).bind fun μ11 =>
      zlet ((jshr x3 3)) fun y12 =>
      h_X2_unpack_113 x2 y12 x5 μ11
theorem eh_X2_unpack_11_b {B : Nat} {τ : zM} {x2 x3 x5 : Int} {μ : cM} (h : cOK B τ μ.2) : hR (Sum.map (fun s => (s.1, s.2.1, cw B s.2.2)) (hf B)) (Sum.elim (fun s : Int × Int × cM => cOK B τ s.2.2.2) (hp B τ)) (f_X2_unpack_11_b (cad B 2 0) (cad B 3 x2) x3 x5 (cw B μ)) (h_X2_unpack_11_b x2 x3 x5 μ) := by
  unfold f_X2_unpack_11_b h_X2_unpack_11_b
  refine hx_if ?_ ?_
  · exact hx_map (eh_X2_unpack_119 h) (fun r => rfl) (fun r q => q)
  · refine he_gA h (f := 300) (c := 3) (o := x2) ⟨rfl, by decide⟩ rfl ?_
    refine he_pa h (f := 300) (o := x2) ⟨⟨rfl, by decide, by decide⟩, rfl⟩ (fun μ2 h => ?_)
    refine he_gA h (f := 200) (c := 2) (o := 0) ⟨rfl, by decide⟩ rfl ?_
    refine he_ga h (f := 200) (o := 0) ⟨⟨rfl, by decide, by decide⟩, rfl⟩ (fun v4 => ?_)
    refine hx_if ?_ ?_
    · refine he_gA h (f := 200) (c := 2) (o := 0) ⟨rfl, by decide⟩ rfl ?_
      refine he_ga h (f := 200) (o := 0) ⟨⟨rfl, by decide, by decide⟩, rfl⟩ (fun v6 => ?_)
      refine hx_if ?_ ?_
      · exact (eh_X2_unpack_113 h)
      · refine he_gA h (f := 300) (c := 3) (o := x2) ⟨rfl, by decide⟩ rfl ?_
        refine he_pa h (f := 300) (o := x2) ⟨⟨rfl, by decide, by decide⟩, rfl⟩ (fun μ8 h => ?_)
        refine hx_let (fun y9 => ?_)
        exact (eh_X2_unpack_83 h)
    · refine he_gA h (f := 300) (c := 3) (o := x2) ⟨rfl, by decide⟩ rfl ?_
      refine he_pa h (f := 300) (o := x2) ⟨⟨rfl, by decide, by decide⟩, rfl⟩ (fun μ11 h => ?_)
      refine hx_let (fun y12 => ?_)
      exact (eh_X2_unpack_113 h)
noncomputable def h_X2_unpack_11 (x2 x3 x5 : Int) (μ : cM) : Option cO :=
  zloop (fun s : Int × Int × cM => h_X2_unpack_11_b x2 s.1 s.2.1 s.2.2) (x3, x5, μ)
theorem eh_X2_unpack_11 {B : Nat} {τ : zM} {x2 x3 x5 : Int} {μ : cM} (h : cOK B τ μ.2) : hR (hf B) (hp B τ) (f_X2_unpack_11 (cad B 2 0) (cad B 3 x2) x3 x5 (cw B μ)) (h_X2_unpack_11 x2 x3 x5 μ) := by
  unfold f_X2_unpack_11 h_X2_unpack_11
  refine hx_loop (φ := (fun s => (s.1, s.2.1, cw B s.2.2))) (Ps := (fun s : Int × Int × cM => cOK B τ s.2.2.2)) (s := (x3, x5, μ)) h (fun s hs => ?_)
  exact eh_X2_unpack_11_b hs
noncomputable def h_X2_unpack (x1 x2 : Int) (μ : cM) : Option cO :=
  (hga μ 213 0 x1).bind fun v2 =>
  h_X2_unpack_11 x2 v2 7 μ
theorem eh_X2_unpack {B : Nat} {τ : zM} {x1 x2 : Int} {μ : cM} (h : cOK B τ μ.2) : hR (hf B) (hp B τ) (f_X2_unpack (cad B 2 0) x1 (cad B 3 x2) (cw B μ)) (h_X2_unpack x1 x2 μ) := by
  unfold f_X2_unpack h_X2_unpack
  refine he_gA h (f := 213) (c := 2) (o := 0) ⟨rfl, by decide⟩ rfl ?_
  refine he_ga h (f := 213) (o := 0) ⟨⟨rfl, by decide, by decide⟩, rfl⟩ (fun v2 => ?_)
  exact (eh_X2_unpack_11 h)
noncomputable def h_X2_isAt_43 (t0 : Int) (μ : cM) : Option cO :=
  zgd (z01 t0) <|
  some (0, zi t0, μ)
theorem eh_X2_isAt_43 {B : Nat} {τ : zM} {t0 : Int} {μ : cM} (h : cOK B τ μ.2) : hR (hf B) (hp B τ) (f_X2_isAt_43 t0 (cw B μ)) (h_X2_isAt_43 t0 μ) := by
  unfold f_X2_isAt_43 h_X2_isAt_43
  refine hx_gd ?_
  first | exact hx_some rfl h | exact hx_some rfl trivial
noncomputable def h_X2_isAt (x1 : Int) (μ : cM) : Option cO :=
  (hga μ 208 0 x1).bind fun v3 =>
  (hrt v3).bind fun v4 =>
  (hga μ 208 0 x1).bind fun v9 =>
  (hga μ 302 0 v9).bind fun v10 =>
  (hga μ 406 v4 v10).bind fun v11 =>
  if (zlcmp (jand (jshr v11 x1) 1) 1) ≠ 0 then
    h_X2_isAt_43 0 μ
  else
    h_X2_isAt_43 1 μ
theorem eh_X2_isAt {B : Nat} {τ : zM} {x1 : Int} {μ : cM} (h : cOK B τ μ.2) : hR (hf B) (hp B τ) (f_X2_isAt (cad B 2 0) x1 (cw B μ)) (h_X2_isAt x1 μ) := by
  unfold f_X2_isAt h_X2_isAt
  refine he_gA h (f := 206) (c := 2) (o := 0) ⟨rfl, by decide⟩ rfl ?_
  refine he_gA h (f := 208) (c := 2) (o := 0) ⟨rfl, by decide⟩ rfl ?_
  refine he_ga h (f := 208) (o := 0) ⟨⟨rfl, by decide, by decide⟩, rfl⟩ (fun v3 => ?_)
  refine he_rt h (fun v4 hqv4 => ?_)
  refine he_gA h (f := 406) (c := 4) (o := v4) ⟨rfl, by decide⟩ rfl ?_
  refine he_gr h (f := 211) (c := 2) (o := 0) ⟨by decide, by decide⟩ rfl ?_
  refine he_gA h (f := 302) (c := 3) (o := 0) ⟨rfl, by decide⟩ rfl ?_
  refine he_gA h (f := 208) (c := 2) (o := 0) ⟨rfl, by decide⟩ rfl ?_
  refine he_ga h (f := 208) (o := 0) ⟨⟨rfl, by decide, by decide⟩, rfl⟩ (fun v9 => ?_)
  refine he_ga h (f := 302) (o := 0) ⟨⟨rfl, by decide, by decide⟩, rfl⟩ (fun v10 => ?_)
  refine he_ga h (f := 406) (o := v4) ⟨⟨rfl, by decide, by decide⟩, rfl⟩ (fun v11 => ?_)
  refine hx_if ?_ ?_
  · exact (eh_X2_isAt_43 h)
  · exact (eh_X2_isAt_43 h)
noncomputable def h_X12_of (x0 x1 : Int) (μ : cM) : Option cO :=
  (zgf μ.2 1200 x0).bind fun v1 =>
  some (0, zi v1, μ)
theorem eh_X12_of {B : Nat} {τ : zM} {x0 x1 : Int} {μ : cM} (h : cOK B τ μ.2) : hR (hf B) (hp B τ) (f_X12_of x0 (caa B 300 x1) (cw B μ)) (h_X12_of x0 x1 μ) := by
  unfold f_X12_of h_X12_of
  refine he_gd 1200 rfl (fun v1 => ?_)
  first | exact hx_some rfl h | exact hx_some rfl trivial
noncomputable def h_X13_of (x0 x1 : Int) (μ : cM) : Option cO :=
  (zgf μ.2 1300 x0).bind fun v1 =>
  (hga μ 300 x1 v1).bind fun v2 =>
  some (0, zi v2, μ)
theorem eh_X13_of {B : Nat} {τ : zM} {x0 x1 : Int} {μ : cM} (h : cOK B τ μ.2) : hR (hf B) (hp B τ) (f_X13_of x0 (caa B 300 x1) (cw B μ)) (h_X13_of x0 x1 μ) := by
  unfold f_X13_of h_X13_of
  refine he_gd 1300 rfl (fun v1 => ?_)
  refine he_ga h (f := 300) (o := x1) ⟨⟨rfl, by decide, by decide⟩, rfl⟩ (fun v2 => ?_)
  first | exact hx_some rfl h | exact hx_some rfl trivial
def HRC_G_X14_of (B : Nat) (τ : zM) (rc : Nat → List Int → zM → Option zO) (rc' : Nat → List Int → cM → Option cO) : Prop :=
  (∀ {x0 x1 : Int} {μ : cM}, cOK B τ μ.2 → hR (hf B) (hp B τ) (rc 0 [x0, caa B 300 x1] (cw B μ)) (rc' 0 [x0, x1] μ)) ∧ True
noncomputable def h_X14_of_99 (rc' : Nat → List Int → cM → Option cO) (t0 : Int) (μ : cM) : Option cO :=
  some (0, zi t0, μ)
theorem eh_X14_of_99 {B : Nat} {τ : zM} {rc : Nat → List Int → zM → Option zO} {rc' : Nat → List Int → cM → Option cO} (hrc : HRC_G_X14_of B τ rc rc') {t0 : Int} {μ : cM} (h : cOK B τ μ.2) : hR (hf B) (hp B τ) (f_X14_of_99 rc t0 (cw B μ)) (h_X14_of_99 rc' t0 μ) := by
  unfold f_X14_of_99 h_X14_of_99
  first | exact hx_some rfl h | exact hx_some rfl trivial
noncomputable def h_X14_of_110 (rc' : Nat → List Int → cM → Option cO) (t0 : Int) (μ : cM) : Option cO :=
  some (0, zi t0, μ)
theorem eh_X14_of_110 {B : Nat} {τ : zM} {rc : Nat → List Int → zM → Option zO} {rc' : Nat → List Int → cM → Option cO} (hrc : HRC_G_X14_of B τ rc rc') {t0 : Int} {μ : cM} (h : cOK B τ μ.2) : hR (hf B) (hp B τ) (f_X14_of_110 rc t0 (cw B μ)) (h_X14_of_110 rc' t0 μ) := by
  unfold f_X14_of_110 h_X14_of_110
  first | exact hx_some rfl h | exact hx_some rfl trivial
noncomputable def h_X14_of (rc' : Nat → List Int → cM → Option cO) (x0 x1 : Int) (μ : cM) : Option cO :=
  (zgf μ.2 1401 x0).bind fun v1 =>
  hci ((if zis μ.2 13 v1 = true then h_X12_of v1 x1 μ else (if zis μ.2 14 v1 = true then h_X13_of v1 x1 μ else (if zis μ.2 15 v1 = true then rc' 0 [v1, x1] μ else none)))) fun v2 μ3 =>
  (zgf μ3.2 1402 x0).bind fun v4 =>
  hci ((if zis μ3.2 13 v4 = true then h_X12_of v4 x1 μ3 else (if zis μ3.2 14 v4 = true then h_X13_of v4 x1 μ3 else (if zis μ3.2 15 v4 = true then rc' 0 [v4, x1] μ3 else none)))) fun v5 μ6 =>
  (zgf μ6.2 1400 x0).bind fun v7 =>
  if v7 = 42 then
    some (0, zi (zand (zmul v2 v5) 7), μ6)
  else
    if v7 = 43 then
      some (0, zi (zand (zadd v2 v5) 7), μ6)
    else
      if v7 = 45 then
        some (0, zi (zand (zsub v2 v5) 7), μ6)
      else
        if v7 = 60 then
          if v5 ≤ v2 then
            h_X14_of_99 rc' 0 μ6
          else
            h_X14_of_99 rc' 1 μ6
        else
          if v2 ≠ v5 then
            h_X14_of_110 rc' 0 μ6
          else
            h_X14_of_110 rc' 1 μ6
theorem eh_X14_of {B : Nat} {τ : zM} {rc : Nat → List Int → zM → Option zO} {rc' : Nat → List Int → cM → Option cO} (hrc : HRC_G_X14_of B τ rc rc') {x0 x1 : Int} {μ : cM} (h : cOK B τ μ.2) : hR (hf B) (hp B τ) (f_X14_of rc x0 (caa B 300 x1) (cw B μ)) (h_X14_of rc' x0 x1 μ) := by
  unfold f_X14_of h_X14_of
  refine he_gd 1401 rfl (fun v1 => ?_)
  refine hx_ci (hx_if (eh_X12_of h) (hx_if (eh_X13_of h) (hx_if (hrc.1 h) (hR_none _ _)))) (fun v2 μ3 h => ?_)
  refine he_gd 1402 rfl (fun v4 => ?_)
  refine hx_ci (hx_if (eh_X12_of h) (hx_if (eh_X13_of h) (hx_if (hrc.1 h) (hR_none _ _)))) (fun v5 μ6 h => ?_)
  refine he_gd 1400 rfl (fun v7 => ?_)
  refine hx_if ?_ ?_
  · first | exact hx_some rfl h | exact hx_some rfl trivial
  · refine hx_if ?_ ?_
    · first | exact hx_some rfl h | exact hx_some rfl trivial
    · refine hx_if ?_ ?_
      · first | exact hx_some rfl h | exact hx_some rfl trivial
      · refine hx_if ?_ ?_
        · refine hx_if ?_ ?_
          · exact (eh_X14_of_99 hrc h)
          · exact (eh_X14_of_99 hrc h)
        · refine hx_if ?_ ?_
          · exact (eh_X14_of_110 hrc h)
          · exact (eh_X14_of_110 hrc h)
noncomputable def h_G_X14_of : Nat → Nat → List Int → cM → Option cO
  | 0, _, _, _ => none
  | d + 1, tg, as, μ => match tg, as with
    | 0, [x0, x1] => h_X14_of (h_G_X14_of d) x0 x1 μ
    | _, _ => none
theorem eh_G_X14_of (B : Nat) (τ : zM) : ∀ d : Nat, HRC_G_X14_of B τ (f_G_X14_of d) (h_G_X14_of d)
  | 0 => ⟨(fun _ => hR_none _ _), trivial⟩
  | d + 1 => ⟨(fun h => eh_X14_of (eh_G_X14_of B τ d) h), trivial⟩
noncomputable def h_X2_meets_64 (t0 : Int) (μ : cM) : Option cO :=
  zgd (z01 t0) <|
  some (0, zi t0, μ)
theorem eh_X2_meets_64 {B : Nat} {τ : zM} {t0 : Int} {μ : cM} (h : cOK B τ μ.2) : hR (hf B) (hp B τ) (f_X2_meets_64 t0 (cw B μ)) (h_X2_meets_64 t0 μ) := by
  unfold f_X2_meets_64 h_X2_meets_64
  refine hx_gd ?_
  first | exact hx_some rfl h | exact hx_some rfl trivial
noncomputable def h_X2_meets_63 (μ : cM) : Option cO :=
  h_X2_meets_64 0 μ
theorem eh_X2_meets_63 {B : Nat} {τ : zM} {μ : cM} (h : cOK B τ μ.2) : hR (hf B) (hp B τ) (f_X2_meets_63  (cw B μ)) (h_X2_meets_63  μ) := by
  unfold f_X2_meets_63 h_X2_meets_63
  exact (eh_X2_meets_64 h)
noncomputable def h_X2_meets (x1 x2 : Int) (μ : cM) : Option cO :=
  (hga μ 208 0 x2).bind fun v2 =>
  (hga μ 208 0 x1).bind fun v4 =>
  if v2 = v4 then
    h_X2_meets_63 μ
  else
    (hga μ 207 0 x2).bind fun v6 =>
    (zgf μ.2 1100 v6).bind fun v7 =>
    if v7 ≠ (-5) then
      h_X2_meets_63 μ
    else
      (hga μ 207 0 x2).bind fun v9 =>
      (zgf μ.2 1107 v9).bind fun v10 =>
      (hga μ 207 0 x1).bind fun v12 =>
      (zgf μ.2 1107 v12).bind fun v13 =>
      if v10 ≠ v13 then
        h_X2_meets_63 μ
      else
        hci (h_X2_isAt x2 μ) fun v14 μ15 =>
        if v14 = 0 then
          h_X2_meets_63 μ15
        else
          h_X2_meets_64 1 μ15
theorem eh_X2_meets {B : Nat} {τ : zM} {x1 x2 : Int} {μ : cM} (h : cOK B τ μ.2) : hR (hf B) (hp B τ) (f_X2_meets (cad B 2 0) x1 x2 (cw B μ)) (h_X2_meets x1 x2 μ) := by
  unfold f_X2_meets h_X2_meets
  refine he_gA h (f := 208) (c := 2) (o := 0) ⟨rfl, by decide⟩ rfl ?_
  refine he_ga h (f := 208) (o := 0) ⟨⟨rfl, by decide, by decide⟩, rfl⟩ (fun v2 => ?_)
  refine he_gA h (f := 208) (c := 2) (o := 0) ⟨rfl, by decide⟩ rfl ?_
  refine he_ga h (f := 208) (o := 0) ⟨⟨rfl, by decide, by decide⟩, rfl⟩ (fun v4 => ?_)
  refine hx_if ?_ ?_
  · exact (eh_X2_meets_63 h)
  · refine he_gA h (f := 207) (c := 2) (o := 0) ⟨rfl, by decide⟩ rfl ?_
    refine he_ga h (f := 207) (o := 0) ⟨⟨rfl, by decide, by decide⟩, rfl⟩ (fun v6 => ?_)
    refine he_gd 1100 rfl (fun v7 => ?_)
    refine hx_if ?_ ?_
    · exact (eh_X2_meets_63 h)
    · refine he_gA h (f := 207) (c := 2) (o := 0) ⟨rfl, by decide⟩ rfl ?_
      refine he_ga h (f := 207) (o := 0) ⟨⟨rfl, by decide, by decide⟩, rfl⟩ (fun v9 => ?_)
      refine he_gd 1107 rfl (fun v10 => ?_)
      refine he_gA h (f := 207) (c := 2) (o := 0) ⟨rfl, by decide⟩ rfl ?_
      refine he_ga h (f := 207) (o := 0) ⟨⟨rfl, by decide, by decide⟩, rfl⟩ (fun v12 => ?_)
      refine he_gd 1107 rfl (fun v13 => ?_)
      refine hx_if ?_ ?_
      · exact (eh_X2_meets_63 h)
      · refine hx_is h ⟨rfl, by decide, by decide⟩ ?_
        refine hx_ci (eh_X2_isAt h) (fun v14 μ15 h => ?_)
        refine hx_if ?_ ?_
        · exact (eh_X2_meets_63 h)
        · exact (eh_X2_meets_64 h)
noncomputable def h_X2_can_64 (t0 : Int) (μ : cM) : Option cO :=
  zgd (z01 t0) <|
  some (0, zi t0, μ)
theorem eh_X2_can_64 {B : Nat} {τ : zM} {t0 : Int} {μ : cM} (h : cOK B τ μ.2) : hR (hf B) (hp B τ) (f_X2_can_64 t0 (cw B μ)) (h_X2_can_64 t0 μ) := by
  unfold f_X2_can_64 h_X2_can_64
  refine hx_gd ?_
  first | exact hx_some rfl h | exact hx_some rfl trivial
noncomputable def h_X2_can_187 (x3 : Int) (μ : cM) : Option cO :=
  zgd (z01 x3) <|
  some (0, zi x3, μ)
theorem eh_X2_can_187 {B : Nat} {τ : zM} {x3 : Int} {μ : cM} (h : cOK B τ μ.2) : hR (hf B) (hp B τ) (f_X2_can_187 x3 (cw B μ)) (h_X2_can_187 x3 μ) := by
  unfold f_X2_can_187 h_X2_can_187
  refine hx_gd ?_
  first | exact hx_some rfl h | exact hx_some rfl trivial
noncomputable def h_X2_can_180 (x1 x4 t0 : Int) (μ : cM) : Option ((Int × Int × cM) ⊕ cO) :=
  zlet (zadd x4 1) fun y1 =>
  some (.inl (t0, y1, μ))
theorem eh_X2_can_180 {B : Nat} {τ : zM} {x1 x4 t0 : Int} {μ : cM} (h : cOK B τ μ.2) : hR (Sum.map (fun s => (s.1, s.2.1, cw B s.2.2)) (hf B)) (Sum.elim (fun s : Int × Int × cM => cOK B τ s.2.2.2) (hp B τ)) (f_X2_can_180 (cad B 2 0) x1 x4 t0 (cw B μ)) (h_X2_can_180 x1 x4 t0 μ) := by
  unfold f_X2_can_180 h_X2_can_180
  refine hx_let (fun y1 => ?_)
  first | exact hx_some rfl h | exact hx_some rfl trivial
noncomputable def h_X2_can_175 (x1 x4 : Int) (μ : cM) : Option ((Int × Int × cM) ⊕ cO) :=
  h_X2_can_180 x1 x4 1 μ
theorem eh_X2_can_175 {B : Nat} {τ : zM} {x1 x4 : Int} {μ : cM} (h : cOK B τ μ.2) : hR (Sum.map (fun s => (s.1, s.2.1, cw B s.2.2)) (hf B)) (Sum.elim (fun s : Int × Int × cM => cOK B τ s.2.2.2) (hp B τ)) (f_X2_can_175 (cad B 2 0) x1 x4 (cw B μ)) (h_X2_can_175 x1 x4 μ) := by
  unfold f_X2_can_175 h_X2_can_175
  exact (eh_X2_can_180 h)
noncomputable def h_X2_can_152_b (x1 x3 x4 : Int) (μ : cM) : Option ((Int × Int × cM) ⊕ cO) :=
  zlet (hG μ 205 0) fun v1 =>
  if v1 ≤ x4 then
    (h_X2_can_187 x3 μ).map (fun r => (.inr r))
  else
    if x3 ≠ 0 then
      h_X2_can_175 x1 x4 μ
    else
      hci (h_X2_meets x1 x4 μ) fun v2 μ3 =>
      if v2 = 0 then
        h_X2_can_180 x1 x4 0 μ3
      else
        h_X2_can_175 x1 x4 μ3
theorem eh_X2_can_152_b {B : Nat} {τ : zM} {x1 x3 x4 : Int} {μ : cM} (h : cOK B τ μ.2) : hR (Sum.map (fun s => (s.1, s.2.1, cw B s.2.2)) (hf B)) (Sum.elim (fun s : Int × Int × cM => cOK B τ s.2.2.2) (hp B τ)) (f_X2_can_152_b (cad B 2 0) x1 x3 x4 (cw B μ)) (h_X2_can_152_b x1 x3 x4 μ) := by
  unfold f_X2_can_152_b h_X2_can_152_b
  refine he_gs h (f := 205) (c := 2) (o := 0) ⟨rfl, by decide, by decide⟩ rfl (fun v1 => ?_)
  refine hx_if ?_ ?_
  · exact hx_map (eh_X2_can_187 h) (fun r => rfl) (fun r q => q)
  · refine hx_if ?_ ?_
    · exact (eh_X2_can_175 h)
    · refine hx_is h ⟨rfl, by decide, by decide⟩ ?_
      refine hx_ci (eh_X2_meets h) (fun v2 μ3 h => ?_)
      refine hx_if ?_ ?_
      · exact (eh_X2_can_180 h)
      · exact (eh_X2_can_175 h)
noncomputable def h_X2_can_152 (x1 x3 x4 : Int) (μ : cM) : Option cO :=
  zloop (fun s : Int × Int × cM => h_X2_can_152_b x1 s.1 s.2.1 s.2.2) (x3, x4, μ)
theorem eh_X2_can_152 {B : Nat} {τ : zM} {x1 x3 x4 : Int} {μ : cM} (h : cOK B τ μ.2) : hR (hf B) (hp B τ) (f_X2_can_152 (cad B 2 0) x1 x3 x4 (cw B μ)) (h_X2_can_152 x1 x3 x4 μ) := by
  unfold f_X2_can_152 h_X2_can_152
  refine hx_loop (φ := (fun s => (s.1, s.2.1, cw B s.2.2))) (Ps := (fun s : Int × Int × cM => cOK B τ s.2.2.2)) (s := (x3, x4, μ)) h (fun s hs => ?_)
  exact eh_X2_can_152_b hs
noncomputable def h_X2_can_146 (t0 : Int) (μ : cM) : Option cO :=
  zgd (z01 t0) <|
  some (0, zi t0, μ)
theorem eh_X2_can_146 {B : Nat} {τ : zM} {t0 : Int} {μ : cM} (h : cOK B τ μ.2) : hR (hf B) (hp B τ) (f_X2_can_146 t0 (cw B μ)) (h_X2_can_146 t0 μ) := by
  unfold f_X2_can_146 h_X2_can_146
  refine hx_gd ?_
  first | exact hx_some rfl h | exact hx_some rfl trivial
noncomputable def h_X2_can_85 (t0 : Int) (μ : cM) : Option cO :=
  zgd (z01 t0) <|
  some (0, zi t0, μ)
theorem eh_X2_can_85 {B : Nat} {τ : zM} {t0 : Int} {μ : cM} (h : cOK B τ μ.2) : hR (hf B) (hp B τ) (f_X2_can_85 t0 (cw B μ)) (h_X2_can_85 t0 μ) := by
  unfold f_X2_can_85 h_X2_can_85
  refine hx_gd ?_
  first | exact hx_some rfl h | exact hx_some rfl trivial
noncomputable def h_X2_can_104 (t0 : Int) (μ : cM) : Option cO :=
  zgd (z01 t0) <|
  some (0, zi t0, μ)
theorem eh_X2_can_104 {B : Nat} {τ : zM} {t0 : Int} {μ : cM} (h : cOK B τ μ.2) : hR (hf B) (hp B τ) (f_X2_can_104 t0 (cw B μ)) (h_X2_can_104 t0 μ) := by
  unfold f_X2_can_104 h_X2_can_104
  refine hx_gd ?_
  first | exact hx_some rfl h | exact hx_some rfl trivial
noncomputable def h_X2_can (x1 : Int) (μ : cM) : Option cO :=
  (hga μ 207 0 x1).bind fun v2 =>
  (zgf μ.2 1100 v2).bind fun v3 =>
  zgd (zen v3) <|
  hci (h_J20_ordinal v3 μ) fun v4 μ5 =>
  if v4 = 1 then
    (zgf μ5.2 1111 v2).bind fun v6 =>
    hci ((if zis μ5.2 13 v6 = true then h_X12_of v6 0 μ5 else (if zis μ5.2 14 v6 = true then h_X13_of v6 0 μ5 else (if zis μ5.2 15 v6 = true then h_G_X14_of 40 0 [v6, 0] μ5 else none)))) fun v9 μ10 =>
    if v9 = 0 then
      h_X2_can_64 0 μ10
    else
      h_X2_can_64 1 μ10
  else
    if v4 = 2 then
      (zgf μ5.2 1107 v2).bind fun v12 =>
      (hga μ5 201 0 v12).bind fun v13 =>
      if v13 ≤ 0 then
        h_X2_can_152 x1 0 0 μ5
      else
        (zgf μ5.2 1107 v2).bind fun v16 =>
        (hga μ5 300 0 v16).bind fun v17 =>
        (zgf μ5.2 1107 v2).bind fun v19 =>
        (hga μ5 201 0 v19).bind fun v20 =>
        if v20 ≤ v17 then
          h_X2_can_146 0 μ5
        else
          h_X2_can_146 1 μ5
    else
      if v4 = 3 then
        (zgf μ5.2 1107 v2).bind fun v23 =>
        (hga μ5 300 0 v23).bind fun v24 =>
        if v24 ≤ 0 then
          h_X2_can_85 0 μ5
        else
          h_X2_can_85 1 μ5
      else
        (zgf μ5.2 1100 v2).bind fun v25 =>
        if v25 = (-7) then
          h_X2_can_104 0 μ5
        else
          h_X2_can_104 1 μ5
theorem eh_X2_can {B : Nat} {τ : zM} {x1 : Int} {μ : cM} (h : cOK B τ μ.2) : hR (hf B) (hp B τ) (f_X2_can (cad B 2 0) x1 (cw B μ)) (h_X2_can x1 μ) := by
  unfold f_X2_can h_X2_can
  refine he_gA h (f := 207) (c := 2) (o := 0) ⟨rfl, by decide⟩ rfl ?_
  refine he_ga h (f := 207) (o := 0) ⟨⟨rfl, by decide, by decide⟩, rfl⟩ (fun v2 => ?_)
  refine he_gd 1100 rfl (fun v3 => ?_)
  refine hx_gd ?_
  refine hx_ci (eh_J20_ordinal h) (fun v4 μ5 h => ?_)
  refine hx_if ?_ ?_
  · refine he_gd 1111 rfl (fun v6 => ?_)
    refine he_gr h (f := 211) (c := 2) (o := 0) ⟨by decide, by decide⟩ rfl ?_
    refine he_gA h (f := 300) (c := 3) (o := 0) ⟨rfl, by decide⟩ rfl ?_
    refine hx_ci (hx_if (eh_X12_of h) (hx_if (eh_X13_of h) (hx_if ((eh_G_X14_of B τ 40).1 h) (hR_none _ _)))) (fun v9 μ10 h => ?_)
    refine hx_if ?_ ?_
    · exact (eh_X2_can_64 h)
    · exact (eh_X2_can_64 h)
  · refine hx_if ?_ ?_
    · refine he_gA h (f := 201) (c := 2) (o := 0) ⟨rfl, by decide⟩ rfl ?_
      refine he_gd 1107 rfl (fun v12 => ?_)
      refine he_ga h (f := 201) (o := 0) ⟨⟨rfl, by decide, by decide⟩, rfl⟩ (fun v13 => ?_)
      refine hx_if ?_ ?_
      · exact (eh_X2_can_152 h)
      · refine he_gr h (f := 211) (c := 2) (o := 0) ⟨by decide, by decide⟩ rfl ?_
        refine he_gA h (f := 300) (c := 3) (o := 0) ⟨rfl, by decide⟩ rfl ?_
        refine he_gd 1107 rfl (fun v16 => ?_)
        refine he_ga h (f := 300) (o := 0) ⟨⟨rfl, by decide, by decide⟩, rfl⟩ (fun v17 => ?_)
        refine he_gA h (f := 201) (c := 2) (o := 0) ⟨rfl, by decide⟩ rfl ?_
        refine he_gd 1107 rfl (fun v19 => ?_)
        refine he_ga h (f := 201) (o := 0) ⟨⟨rfl, by decide, by decide⟩, rfl⟩ (fun v20 => ?_)
        refine hx_if ?_ ?_
        · exact (eh_X2_can_146 h)
        · exact (eh_X2_can_146 h)
    · refine hx_if ?_ ?_
      · refine he_gr h (f := 211) (c := 2) (o := 0) ⟨by decide, by decide⟩ rfl ?_
        refine he_gA h (f := 300) (c := 3) (o := 0) ⟨rfl, by decide⟩ rfl ?_
        refine he_gd 1107 rfl (fun v23 => ?_)
        refine he_ga h (f := 300) (o := 0) ⟨⟨rfl, by decide, by decide⟩, rfl⟩ (fun v24 => ?_)
        refine hx_if ?_ ?_
        · exact (eh_X2_can_85 h)
        · exact (eh_X2_can_85 h)
      · refine he_gd 1100 rfl (fun v25 => ?_)
        refine hx_if ?_ ?_
        · exact (eh_X2_can_104 h)
        · exact (eh_X2_can_104 h)
noncomputable def h_X2_acts_79 (x3 : Int) (μ : cM) : Option cO :=
  zgd (z01 x3) <|
  some (0, zi x3, μ)
theorem eh_X2_acts_79 {B : Nat} {τ : zM} {x3 : Int} {μ : cM} (h : cOK B τ μ.2) : hR (hf B) (hp B τ) (f_X2_acts_79 x3 (cw B μ)) (h_X2_acts_79 x3 μ) := by
  unfold f_X2_acts_79 h_X2_acts_79
  refine hx_gd ?_
  first | exact hx_some rfl h | exact hx_some rfl trivial
noncomputable def h_X2_acts_72 (x1 x2 x4 t0 : Int) (μ : cM) : Option ((Int × Int × cM) ⊕ cO) :=
  zlet (zadd x4 1) fun y1 =>
  some (.inl (t0, y1, μ))
theorem eh_X2_acts_72 {B : Nat} {τ : zM} {x1 x2 x4 t0 : Int} {μ : cM} (h : cOK B τ μ.2) : hR (Sum.map (fun s => (s.1, s.2.1, cw B s.2.2)) (hf B)) (Sum.elim (fun s : Int × Int × cM => cOK B τ s.2.2.2) (hp B τ)) (f_X2_acts_72 (cad B 2 0) x1 x2 x4 t0 (cw B μ)) (h_X2_acts_72 x1 x2 x4 t0 μ) := by
  unfold f_X2_acts_72 h_X2_acts_72
  refine hx_let (fun y1 => ?_)
  first | exact hx_some rfl h | exact hx_some rfl trivial
noncomputable def h_X2_acts_67 (x1 x2 x4 : Int) (μ : cM) : Option ((Int × Int × cM) ⊕ cO) :=
  h_X2_acts_72 x1 x2 x4 1 μ
theorem eh_X2_acts_67 {B : Nat} {τ : zM} {x1 x2 x4 : Int} {μ : cM} (h : cOK B τ μ.2) : hR (Sum.map (fun s => (s.1, s.2.1, cw B s.2.2)) (hf B)) (Sum.elim (fun s : Int × Int × cM => cOK B τ s.2.2.2) (hp B τ)) (f_X2_acts_67 (cad B 2 0) x1 x2 x4 (cw B μ)) (h_X2_acts_67 x1 x2 x4 μ) := by
  unfold f_X2_acts_67 h_X2_acts_67
  exact (eh_X2_acts_72 h)
noncomputable def h_X2_acts_71 (x1 x2 x4 : Int) (μ : cM) : Option ((Int × Int × cM) ⊕ cO) :=
  h_X2_acts_72 x1 x2 x4 0 μ
theorem eh_X2_acts_71 {B : Nat} {τ : zM} {x1 x2 x4 : Int} {μ : cM} (h : cOK B τ μ.2) : hR (Sum.map (fun s => (s.1, s.2.1, cw B s.2.2)) (hf B)) (Sum.elim (fun s : Int × Int × cM => cOK B τ s.2.2.2) (hp B τ)) (f_X2_acts_71 (cad B 2 0) x1 x2 x4 (cw B μ)) (h_X2_acts_71 x1 x2 x4 μ) := by
  unfold f_X2_acts_71 h_X2_acts_71
  exact (eh_X2_acts_72 h)
noncomputable def h_X2_acts_5_b (x1 x2 x3 x4 : Int) (μ : cM) : Option ((Int × Int × cM) ⊕ cO) :=
  zlet (hG μ 205 0) fun v1 =>
  if v1 ≤ x4 then
    (h_X2_acts_79 x3 μ).map (fun r => (.inr r))
  else
    if x3 ≠ 0 then
      h_X2_acts_67 x1 x2 x4 μ
    else
      (hga μ 208 0 x4).bind fun v3 =>
      if v3 ≠ x1 then
        h_X2_acts_71 x1 x2 x4 μ
      else
        hci (h_X2_isAt x4 μ) fun v4 μ5 =>
        if v4 = 0 then
          h_X2_acts_71 x1 x2 x4 μ5
        else
          hci (h_X2_can x4 μ5) fun v6 μ7 =>
          if v6 ≠ 0 then
            h_X2_acts_67 x1 x2 x4 μ7
          else
            if x2 = 0 then
              h_X2_acts_71 x1 x2 x4 μ7
            else
              (hga μ7 207 0 x4).bind fun v9 =>
              (zgf μ7.2 1100 v9).bind fun v10 =>
              if v10 ≠ (-7) then
                h_X2_acts_71 x1 x2 x4 μ7
              else
                h_X2_acts_67 x1 x2 x4 μ7
theorem eh_X2_acts_5_b {B : Nat} {τ : zM} {x1 x2 x3 x4 : Int} {μ : cM} (h : cOK B τ μ.2) : hR (Sum.map (fun s => (s.1, s.2.1, cw B s.2.2)) (hf B)) (Sum.elim (fun s : Int × Int × cM => cOK B τ s.2.2.2) (hp B τ)) (f_X2_acts_5_b (cad B 2 0) x1 x2 x3 x4 (cw B μ)) (h_X2_acts_5_b x1 x2 x3 x4 μ) := by
  unfold f_X2_acts_5_b h_X2_acts_5_b
  refine he_gs h (f := 205) (c := 2) (o := 0) ⟨rfl, by decide, by decide⟩ rfl (fun v1 => ?_)
  refine hx_if ?_ ?_
  · exact hx_map (eh_X2_acts_79 h) (fun r => rfl) (fun r q => q)
  · refine hx_if ?_ ?_
    · exact (eh_X2_acts_67 h)
    · refine he_gA h (f := 208) (c := 2) (o := 0) ⟨rfl, by decide⟩ rfl ?_
      refine he_ga h (f := 208) (o := 0) ⟨⟨rfl, by decide, by decide⟩, rfl⟩ (fun v3 => ?_)
      refine hx_if ?_ ?_
      · exact (eh_X2_acts_71 h)
      · refine hx_is h ⟨rfl, by decide, by decide⟩ ?_
        refine hx_ci (eh_X2_isAt h) (fun v4 μ5 h => ?_)
        refine hx_if ?_ ?_
        · exact (eh_X2_acts_71 h)
        · refine hx_is h ⟨rfl, by decide, by decide⟩ ?_
          refine hx_ci (eh_X2_can h) (fun v6 μ7 h => ?_)
          refine hx_if ?_ ?_
          · exact (eh_X2_acts_67 h)
          · refine hx_if ?_ ?_
            · exact (eh_X2_acts_71 h)
            · refine he_gA h (f := 207) (c := 2) (o := 0) ⟨rfl, by decide⟩ rfl ?_
              refine he_ga h (f := 207) (o := 0) ⟨⟨rfl, by decide, by decide⟩, rfl⟩ (fun v9 => ?_)
              refine he_gd 1100 rfl (fun v10 => ?_)
              refine hx_if ?_ ?_
              · exact (eh_X2_acts_71 h)
              · exact (eh_X2_acts_67 h)
noncomputable def h_X2_acts_5 (x1 x2 x3 x4 : Int) (μ : cM) : Option cO :=
  zloop (fun s : Int × Int × cM => h_X2_acts_5_b x1 x2 s.1 s.2.1 s.2.2) (x3, x4, μ)
theorem eh_X2_acts_5 {B : Nat} {τ : zM} {x1 x2 x3 x4 : Int} {μ : cM} (h : cOK B τ μ.2) : hR (hf B) (hp B τ) (f_X2_acts_5 (cad B 2 0) x1 x2 x3 x4 (cw B μ)) (h_X2_acts_5 x1 x2 x3 x4 μ) := by
  unfold f_X2_acts_5 h_X2_acts_5
  refine hx_loop (φ := (fun s => (s.1, s.2.1, cw B s.2.2))) (Ps := (fun s : Int × Int × cM => cOK B τ s.2.2.2)) (s := (x3, x4, μ)) h (fun s hs => ?_)
  exact eh_X2_acts_5_b hs
noncomputable def h_X2_acts (x1 x2 : Int) (μ : cM) : Option cO :=
  h_X2_acts_5 x1 x2 0 0 μ
theorem eh_X2_acts {B : Nat} {τ : zM} {x1 x2 : Int} {μ : cM} (h : cOK B τ μ.2) : hR (hf B) (hp B τ) (f_X2_acts (cad B 2 0) x1 x2 (cw B μ)) (h_X2_acts x1 x2 μ) := by
  unfold f_X2_acts h_X2_acts
  exact (eh_X2_acts_5 h)
noncomputable def h_X3_copy_80 (x0 x1 : Int) (μ : cM) : Option cO :=
  zlet (hG μ 303 x1) fun v1 =>
  hwl (hS μ 303 x0 v1) fun μ2 =>
  some (0, ((3, 0) : zV), μ2)
theorem eh_X3_copy_80 {B : Nat} {τ : zM} {x0 x1 : Int} {μ : cM} (h : cOK B τ μ.2) : hR (hf B) (hp B τ) (f_X3_copy_80 (cad B 3 x0) (cad B 3 x1) (cw B μ)) (h_X3_copy_80 x0 x1 μ) := by
  unfold f_X3_copy_80 h_X3_copy_80
  refine he_gs h (f := 303) (c := 3) (o := x1) ⟨rfl, by decide, by decide⟩ rfl (fun v1 => ?_)
  refine he_ps h (f := 303) (c := 3) (o := x0) ⟨rfl, by decide, by decide⟩ rfl (fun μ2 h => ?_)
  first | exact hx_some rfl h | exact hx_some rfl trivial
noncomputable def h_X3_copy_57_b (x0 x1 x2 : Int) (μ : cM) : Option ((Int × cM) ⊕ cO) :=
  if 4 ≤ x2 then
    (h_X3_copy_80 x0 x1 μ).map (fun r => (.inr r))
  else
    (hga μ 302 x1 x2).bind fun v3 =>
    (hpa μ 302 x0 x2 v3).bind fun μ4 =>
    zlet (zadd x2 1) fun y5 =>
    some (.inl (y5, μ4))
theorem eh_X3_copy_57_b {B : Nat} {τ : zM} {x0 x1 x2 : Int} {μ : cM} (h : cOK B τ μ.2) : hR (Sum.map (fun s => (s.1, cw B s.2)) (hf B)) (Sum.elim (fun s : Int × cM => cOK B τ s.2.2) (hp B τ)) (f_X3_copy_57_b (cad B 3 x0) (cad B 3 x1) x2 (cw B μ)) (h_X3_copy_57_b x0 x1 x2 μ) := by
  unfold f_X3_copy_57_b h_X3_copy_57_b
  refine hx_if ?_ ?_
  · exact hx_map (eh_X3_copy_80 h) (fun r => rfl) (fun r q => q)
  · refine he_gA h (f := 302) (c := 3) (o := x0) ⟨rfl, by decide⟩ rfl ?_
    refine he_gA h (f := 302) (c := 3) (o := x1) ⟨rfl, by decide⟩ rfl ?_
    refine he_ga h (f := 302) (o := x1) ⟨⟨rfl, by decide, by decide⟩, rfl⟩ (fun v3 => ?_)
    refine he_pa h (f := 302) (o := x0) ⟨⟨rfl, by decide, by decide⟩, rfl⟩ (fun μ4 h => ?_)
    refine hx_let (fun y5 => ?_)
    first | exact hx_some rfl h | exact hx_some rfl trivial
noncomputable def h_X3_copy_57 (x0 x1 x2 : Int) (μ : cM) : Option cO :=
  zloop (fun s : Int × cM => h_X3_copy_57_b x0 x1 s.1 s.2) (x2, μ)
theorem eh_X3_copy_57 {B : Nat} {τ : zM} {x0 x1 x2 : Int} {μ : cM} (h : cOK B τ μ.2) : hR (hf B) (hp B τ) (f_X3_copy_57 (cad B 3 x0) (cad B 3 x1) x2 (cw B μ)) (h_X3_copy_57 x0 x1 x2 μ) := by
  unfold f_X3_copy_57 h_X3_copy_57
  refine hx_loop (φ := (fun s => (s.1, cw B s.2))) (Ps := (fun s : Int × cM => cOK B τ s.2.2)) (s := (x2, μ)) h (fun s hs => ?_)
  exact eh_X3_copy_57_b hs
noncomputable def h_X3_copy_55 (x0 x1 : Int) (μ : cM) : Option cO :=
  h_X3_copy_57 x0 x1 0 μ
theorem eh_X3_copy_55 {B : Nat} {τ : zM} {x0 x1 : Int} {μ : cM} (h : cOK B τ μ.2) : hR (hf B) (hp B τ) (f_X3_copy_55 (cad B 3 x0) (cad B 3 x1) (cw B μ)) (h_X3_copy_55 x0 x1 μ) := by
  unfold f_X3_copy_55 h_X3_copy_55
  exact (eh_X3_copy_57 h)
noncomputable def h_X3_copy_49 (x0 x1 x2 : Int) (μ : cM) : Option ((Int × cM) ⊕ cO) :=
  zlet (zadd x2 1) fun y1 =>
  some (.inl (y1, μ))
theorem eh_X3_copy_49 {B : Nat} {τ : zM} {x0 x1 x2 : Int} {μ : cM} (h : cOK B τ μ.2) : hR (Sum.map (fun s => (s.1, cw B s.2)) (hf B)) (Sum.elim (fun s : Int × cM => cOK B τ s.2.2) (hp B τ)) (f_X3_copy_49 (cad B 3 x0) (cad B 3 x1) x2 (cw B μ)) (h_X3_copy_49 x0 x1 x2 μ) := by
  unfold f_X3_copy_49 h_X3_copy_49
  refine hx_let (fun y1 => ?_)
  first | exact hx_some rfl h | exact hx_some rfl trivial
noncomputable def h_X3_copy_22_b (x0 x1 x2 x3 : Int) (μ : cM) : Option ((Int × cM) ⊕ ((Int × cM) ⊕ cO)) :=
  if 3 ≤ x3 then
    (h_X3_copy_49 x0 x1 x2 μ).map (fun r => (.inr r))
  else
    (hqr x2).bind fun v2 =>
    (hqr x2).bind fun v4 =>
    (hgq μ x1 v4 x3).bind fun v5 =>
    (hpq μ x0 v2 x3 v5).bind fun μ6 =>
    zlet (zadd x3 1) fun y7 =>
    some (.inl (y7, μ6))
theorem eh_X3_copy_22_b {B : Nat} {τ : zM} {x0 x1 x2 x3 : Int} {μ : cM} (h : cOK B τ μ.2) : hR (Sum.map (fun s => (s.1, cw B s.2)) (Sum.map (fun s => (s.1, cw B s.2)) (hf B))) (Sum.elim (fun s : Int × cM => cOK B τ s.2.2) (Sum.elim (fun s : Int × cM => cOK B τ s.2.2) (hp B τ))) (f_X3_copy_22_b (cad B 3 x0) (cad B 3 x1) x2 x3 (cw B μ)) (h_X3_copy_22_b x0 x1 x2 x3 μ) := by
  unfold f_X3_copy_22_b h_X3_copy_22_b
  refine hx_if ?_ ?_
  · exact hx_map (eh_X3_copy_49 h) (fun r => rfl) (fun r q => q)
  · refine he_gA h (f := 301) (c := 3) (o := x0) ⟨rfl, by decide⟩ rfl ?_
    refine he_qr h (fun v2 => ?_)
    refine he_gA h (f := 301) (c := 3) (o := x1) ⟨rfl, by decide⟩ rfl ?_
    refine he_qr h (fun v4 => ?_)
    refine he_gq h (fun v5 => ?_)
    refine he_pq h (fun μ6 h => ?_)
    refine hx_let (fun y7 => ?_)
    first | exact hx_some rfl h | exact hx_some rfl trivial
noncomputable def h_X3_copy_22 (x0 x1 x2 x3 : Int) (μ : cM) : Option ((Int × cM) ⊕ cO) :=
  zloop (fun s : Int × cM => h_X3_copy_22_b x0 x1 x2 s.1 s.2) (x3, μ)
theorem eh_X3_copy_22 {B : Nat} {τ : zM} {x0 x1 x2 x3 : Int} {μ : cM} (h : cOK B τ μ.2) : hR (Sum.map (fun s => (s.1, cw B s.2)) (hf B)) (Sum.elim (fun s : Int × cM => cOK B τ s.2.2) (hp B τ)) (f_X3_copy_22 (cad B 3 x0) (cad B 3 x1) x2 x3 (cw B μ)) (h_X3_copy_22 x0 x1 x2 x3 μ) := by
  unfold f_X3_copy_22 h_X3_copy_22
  refine hx_loop (φ := (fun s => (s.1, cw B s.2))) (Ps := (fun s : Int × cM => cOK B τ s.2.2)) (s := (x3, μ)) h (fun s hs => ?_)
  exact eh_X3_copy_22_b hs
noncomputable def h_X3_copy_2_b (x0 x1 x2 : Int) (μ : cM) : Option ((Int × cM) ⊕ cO) :=
  if 8 ≤ x2 then
    (h_X3_copy_55 x0 x1 μ).map (fun r => (.inr r))
  else
    (hga μ 300 x1 x2).bind fun v3 =>
    (hpa μ 300 x0 x2 v3).bind fun μ4 =>
    h_X3_copy_22 x0 x1 x2 0 μ4
theorem eh_X3_copy_2_b {B : Nat} {τ : zM} {x0 x1 x2 : Int} {μ : cM} (h : cOK B τ μ.2) : hR (Sum.map (fun s => (s.1, cw B s.2)) (hf B)) (Sum.elim (fun s : Int × cM => cOK B τ s.2.2) (hp B τ)) (f_X3_copy_2_b (cad B 3 x0) (cad B 3 x1) x2 (cw B μ)) (h_X3_copy_2_b x0 x1 x2 μ) := by
  unfold f_X3_copy_2_b h_X3_copy_2_b
  refine hx_if ?_ ?_
  · exact hx_map (eh_X3_copy_55 h) (fun r => rfl) (fun r q => q)
  · refine he_gA h (f := 300) (c := 3) (o := x0) ⟨rfl, by decide⟩ rfl ?_
    refine he_gA h (f := 300) (c := 3) (o := x1) ⟨rfl, by decide⟩ rfl ?_
    refine he_ga h (f := 300) (o := x1) ⟨⟨rfl, by decide, by decide⟩, rfl⟩ (fun v3 => ?_)
    refine he_pa h (f := 300) (o := x0) ⟨⟨rfl, by decide, by decide⟩, rfl⟩ (fun μ4 h => ?_)
    exact (eh_X3_copy_22 h)
noncomputable def h_X3_copy_2 (x0 x1 x2 : Int) (μ : cM) : Option cO :=
  zloop (fun s : Int × cM => h_X3_copy_2_b x0 x1 s.1 s.2) (x2, μ)
theorem eh_X3_copy_2 {B : Nat} {τ : zM} {x0 x1 x2 : Int} {μ : cM} (h : cOK B τ μ.2) : hR (hf B) (hp B τ) (f_X3_copy_2 (cad B 3 x0) (cad B 3 x1) x2 (cw B μ)) (h_X3_copy_2 x0 x1 x2 μ) := by
  unfold f_X3_copy_2 h_X3_copy_2
  refine hx_loop (φ := (fun s => (s.1, cw B s.2))) (Ps := (fun s : Int × cM => cOK B τ s.2.2)) (s := (x2, μ)) h (fun s hs => ?_)
  exact eh_X3_copy_2_b hs
noncomputable def h_X3_copy (x0 x1 : Int) (μ : cM) : Option cO :=
  h_X3_copy_2 x0 x1 0 μ
theorem eh_X3_copy {B : Nat} {τ : zM} {x0 x1 : Int} {μ : cM} (h : cOK B τ μ.2) : hR (hf B) (hp B τ) (f_X3_copy (cad B 3 x0) (cad B 3 x1) (cw B μ)) (h_X3_copy x0 x1 μ) := by
  unfold f_X3_copy h_X3_copy
  exact (eh_X3_copy_2 h)
noncomputable def h_X3_get_55 (x2 : Int) (μ : cM) : Option cO :=
  some (0, zi x2, μ)
theorem eh_X3_get_55 {B : Nat} {τ : zM} {x2 : Int} {μ : cM} (h : cOK B τ μ.2) : hR (hf B) (hp B τ) (f_X3_get_55 x2 (cw B μ)) (h_X3_get_55 x2 μ) := by
  unfold f_X3_get_55 h_X3_get_55
  first | exact hx_some rfl h | exact hx_some rfl trivial
noncomputable def h_X3_get_21_b (x0 x1 x2 x3 : Int) (μ : cM) : Option ((Int × cM) ⊕ cO) :=
  (hga μ 300 x0 x1).bind fun v2 =>
  if v2 ≤ x3 then
    (h_X3_get_55 x2 μ).map (fun r => (.inr r))
  else
    (hqr x1).bind fun v4 =>
    (hqr x1).bind fun v6 =>
    (hgq μ x0 v6 (zadd x3 1)).bind fun v7 =>
    (hpq μ x0 v4 x3 v7).bind fun μ8 =>
    zlet (zadd x3 1) fun y9 =>
    some (.inl (y9, μ8))
theorem eh_X3_get_21_b {B : Nat} {τ : zM} {x0 x1 x2 x3 : Int} {μ : cM} (h : cOK B τ μ.2) : hR (Sum.map (fun s => (s.1, cw B s.2)) (hf B)) (Sum.elim (fun s : Int × cM => cOK B τ s.2.2) (hp B τ)) (f_X3_get_21_b (cad B 3 x0) x1 x2 x3 (cw B μ)) (h_X3_get_21_b x0 x1 x2 x3 μ) := by
  unfold f_X3_get_21_b h_X3_get_21_b
  refine he_gA h (f := 300) (c := 3) (o := x0) ⟨rfl, by decide⟩ rfl ?_
  refine he_ga h (f := 300) (o := x0) ⟨⟨rfl, by decide, by decide⟩, rfl⟩ (fun v2 => ?_)
  refine hx_if ?_ ?_
  · exact hx_map (eh_X3_get_55 h) (fun r => rfl) (fun r q => q)
  · refine he_gA h (f := 301) (c := 3) (o := x0) ⟨rfl, by decide⟩ rfl ?_
    refine he_qr h (fun v4 => ?_)
    refine he_gA h (f := 301) (c := 3) (o := x0) ⟨rfl, by decide⟩ rfl ?_
    refine he_qr h (fun v6 => ?_)
    refine he_gq h (fun v7 => ?_)
    refine he_pq h (fun μ8 h => ?_)
    refine hx_let (fun y9 => ?_)
    first | exact hx_some rfl h | exact hx_some rfl trivial
noncomputable def h_X3_get_21 (x0 x1 x2 x3 : Int) (μ : cM) : Option cO :=
  zloop (fun s : Int × cM => h_X3_get_21_b x0 x1 x2 s.1 s.2) (x3, μ)
theorem eh_X3_get_21 {B : Nat} {τ : zM} {x0 x1 x2 x3 : Int} {μ : cM} (h : cOK B τ μ.2) : hR (hf B) (hp B τ) (f_X3_get_21 (cad B 3 x0) x1 x2 x3 (cw B μ)) (h_X3_get_21 x0 x1 x2 x3 μ) := by
  unfold f_X3_get_21 h_X3_get_21
  refine hx_loop (φ := (fun s => (s.1, cw B s.2))) (Ps := (fun s : Int × cM => cOK B τ s.2.2)) (s := (x3, μ)) h (fun s hs => ?_)
  exact eh_X3_get_21_b hs
noncomputable def h_X3_get (x0 x1 : Int) (μ : cM) : Option cO :=
  (hqr x1).bind fun v2 =>
  (hgq μ x0 v2 0).bind fun v3 =>
  (hga μ 300 x0 x1).bind fun v5 =>
  (hpa μ 300 x0 x1 (zsub v5 1)).bind fun μ6 =>
  h_X3_get_21 x0 x1 v3 0 μ6
theorem eh_X3_get {B : Nat} {τ : zM} {x0 x1 : Int} {μ : cM} (h : cOK B τ μ.2) : hR (hf B) (hp B τ) (f_X3_get (cad B 3 x0) x1 (cw B μ)) (h_X3_get x0 x1 μ) := by
  unfold f_X3_get h_X3_get
  refine he_gA h (f := 301) (c := 3) (o := x0) ⟨rfl, by decide⟩ rfl ?_
  refine he_qr h (fun v2 => ?_)
  refine he_gq h (fun v3 => ?_)
  refine he_gA h (f := 300) (c := 3) (o := x0) ⟨rfl, by decide⟩ rfl ?_
  refine he_ga h (f := 300) (o := x0) ⟨⟨rfl, by decide, by decide⟩, rfl⟩ (fun v5 => ?_)
  refine he_pa h (f := 300) (o := x0) ⟨⟨rfl, by decide, by decide⟩, rfl⟩ (fun μ6 h => ?_)
  exact (eh_X3_get_21 h)
noncomputable def h_X3_put (x0 x1 x2 : Int) (μ : cM) : Option cO :=
  (hqr x1).bind fun v2 =>
  (hga μ 300 x0 x1).bind fun v4 =>
  (hpq μ x0 v2 v4 x2).bind fun μ5 =>
  (hga μ5 300 x0 x1).bind fun v7 =>
  (hpa μ5 300 x0 x1 (zadd v7 1)).bind fun μ8 =>
  some (0, ((3, 0) : zV), μ8)
theorem eh_X3_put {B : Nat} {τ : zM} {x0 x1 x2 : Int} {μ : cM} (h : cOK B τ μ.2) : hR (hf B) (hp B τ) (f_X3_put (cad B 3 x0) x1 x2 (cw B μ)) (h_X3_put x0 x1 x2 μ) := by
  unfold f_X3_put h_X3_put
  refine he_gA h (f := 301) (c := 3) (o := x0) ⟨rfl, by decide⟩ rfl ?_
  refine he_qr h (fun v2 => ?_)
  refine he_gA h (f := 300) (c := 3) (o := x0) ⟨rfl, by decide⟩ rfl ?_
  refine he_ga h (f := 300) (o := x0) ⟨⟨rfl, by decide, by decide⟩, rfl⟩ (fun v4 => ?_)
  refine he_pq h (fun μ5 h => ?_)
  refine he_gA h (f := 300) (c := 3) (o := x0) ⟨rfl, by decide⟩ rfl ?_
  refine he_ga h (f := 300) (o := x0) ⟨⟨rfl, by decide, by decide⟩, rfl⟩ (fun v7 => ?_)
  refine he_pa h (f := 300) (o := x0) ⟨⟨rfl, by decide, by decide⟩, rfl⟩ (fun μ8 h => ?_)
  first | exact hx_some rfl h | exact hx_some rfl trivial
noncomputable def h_X2_leave_44 (μ : cM) : Option cO :=
  some (0, ((3, 0) : zV), μ)
theorem eh_X2_leave_44 {B : Nat} {τ : zM} {μ : cM} (h : cOK B τ μ.2) : hR (hf B) (hp B τ) (f_X2_leave_44  (cw B μ)) (h_X2_leave_44  μ) := by
  unfold f_X2_leave_44 h_X2_leave_44
  first | exact hx_some rfl h | exact hx_some rfl trivial
noncomputable def h_X2_leave (x1 : Int) (μ : cM) : Option cO :=
  (hga μ 208 0 x1).bind fun v4 =>
  (hga μ 209 0 x1).bind fun v6 =>
  (hpa μ 302 1 v4 v6).bind fun μ7 =>
  (hga μ7 210 0 x1).bind fun v9 =>
  if v9 = 0 then
    h_X2_leave_44 μ7
  else
    (hga μ7 208 0 x1).bind fun v12 =>
    hwl (hS μ7 303 1 (zadd 1 v12)) fun μ13 =>
    h_X2_leave_44 μ13
theorem eh_X2_leave {B : Nat} {τ : zM} {x1 : Int} {μ : cM} (h : cOK B τ μ.2) : hR (hf B) (hp B τ) (f_X2_leave (cad B 2 0) x1 (cw B μ)) (h_X2_leave x1 μ) := by
  unfold f_X2_leave h_X2_leave
  refine he_gr h (f := 212) (c := 2) (o := 0) ⟨by decide, by decide⟩ rfl ?_
  refine he_gA h (f := 302) (c := 3) (o := 1) ⟨rfl, by decide⟩ rfl ?_
  refine he_gA h (f := 208) (c := 2) (o := 0) ⟨rfl, by decide⟩ rfl ?_
  refine he_ga h (f := 208) (o := 0) ⟨⟨rfl, by decide, by decide⟩, rfl⟩ (fun v4 => ?_)
  refine he_gA h (f := 209) (c := 2) (o := 0) ⟨rfl, by decide⟩ rfl ?_
  refine he_ga h (f := 209) (o := 0) ⟨⟨rfl, by decide, by decide⟩, rfl⟩ (fun v6 => ?_)
  refine he_pa h (f := 302) (o := 1) ⟨⟨rfl, by decide, by decide⟩, rfl⟩ (fun μ7 h => ?_)
  refine he_gA h (f := 210) (c := 2) (o := 0) ⟨rfl, by decide⟩ rfl ?_
  refine he_ga h (f := 210) (o := 0) ⟨⟨rfl, by decide, by decide⟩, rfl⟩ (fun v9 => ?_)
  refine hx_if ?_ ?_
  · exact (eh_X2_leave_44 h)
  · refine he_gr h (f := 212) (c := 2) (o := 0) ⟨by decide, by decide⟩ rfl ?_
    refine he_gA h (f := 208) (c := 2) (o := 0) ⟨rfl, by decide⟩ rfl ?_
    refine he_ga h (f := 208) (o := 0) ⟨⟨rfl, by decide, by decide⟩, rfl⟩ (fun v12 => ?_)
    refine he_ps h (f := 303) (c := 3) (o := 1) ⟨rfl, by decide, by decide⟩ rfl (fun μ13 h => ?_)
    exact (eh_X2_leave_44 h)
noncomputable def h_X2_add (x1 x2 x3 x4 : Int) (μ : cM) : Option cO :=
  zlet (hG μ 221 0) fun v1 =>
  if v1 ≠ 400 then
    zlet (hG μ 221 0) fun v3 =>
    (hpa μ 216 0 v3 x1).bind fun μ4 =>
    zlet (hG μ4 221 0) fun v6 =>
    (hpa μ4 217 0 v6 x2).bind fun μ7 =>
    zlet (hG μ7 221 0) fun v9 =>
    (hpa μ7 218 0 v9 x3).bind fun μ10 =>
    zlet (hG μ10 221 0) fun v12 =>
    (hpa μ10 219 0 v12 x4).bind fun μ13 =>
    zlet (hG μ13 221 0) fun v14 =>
    hwl (hS μ13 221 0 (zadd v14 1)) fun μ15 =>
    some (0, ((3, 0) : zV), μ15)
  else
    (hup μ (znX μ.2 53)).bind fun μ16 =>
    zgd (zis μ16.2 53 (↑(zN μ.2) : Int)) <|
    some (3, zr (↑(zN μ.2) : Int), μ16)
theorem eh_X2_add {B : Nat} {τ : zM} {x1 x2 x3 x4 : Int} {μ : cM} (h : cOK B τ μ.2) : hR (hf B) (hp B τ) (f_X2_add (cad B 2 0) x1 x2 x3 x4 (cw B μ)) (h_X2_add x1 x2 x3 x4 μ) := by
  unfold f_X2_add h_X2_add
  refine he_gs h (f := 221) (c := 2) (o := 0) ⟨rfl, by decide, by decide⟩ rfl (fun v1 => ?_)
  refine hx_if ?_ ?_
  · refine he_gA h (f := 216) (c := 2) (o := 0) ⟨rfl, by decide⟩ rfl ?_
    refine he_gs h (f := 221) (c := 2) (o := 0) ⟨rfl, by decide, by decide⟩ rfl (fun v3 => ?_)
    refine he_pa h (f := 216) (o := 0) ⟨⟨rfl, by decide, by decide⟩, rfl⟩ (fun μ4 h => ?_)
    refine he_gA h (f := 217) (c := 2) (o := 0) ⟨rfl, by decide⟩ rfl ?_
    refine he_gs h (f := 221) (c := 2) (o := 0) ⟨rfl, by decide, by decide⟩ rfl (fun v6 => ?_)
    refine he_pa h (f := 217) (o := 0) ⟨⟨rfl, by decide, by decide⟩, rfl⟩ (fun μ7 h => ?_)
    refine he_gA h (f := 218) (c := 2) (o := 0) ⟨rfl, by decide⟩ rfl ?_
    refine he_gs h (f := 221) (c := 2) (o := 0) ⟨rfl, by decide, by decide⟩ rfl (fun v9 => ?_)
    refine he_pa h (f := 218) (o := 0) ⟨⟨rfl, by decide, by decide⟩, rfl⟩ (fun μ10 h => ?_)
    refine he_gA h (f := 219) (c := 2) (o := 0) ⟨rfl, by decide⟩ rfl ?_
    refine he_gs h (f := 221) (c := 2) (o := 0) ⟨rfl, by decide, by decide⟩ rfl (fun v12 => ?_)
    refine he_pa h (f := 219) (o := 0) ⟨⟨rfl, by decide, by decide⟩, rfl⟩ (fun μ13 h => ?_)
    refine he_gs h (f := 221) (c := 2) (o := 0) ⟨rfl, by decide, by decide⟩ rfl (fun v14 => ?_)
    refine he_ps h (f := 221) (c := 2) (o := 0) ⟨rfl, by decide, by decide⟩ rfl (fun μ15 h => ?_)
    first | exact hx_some rfl h | exact hx_some rfl trivial
  · refine he_nX h (fun μ16 h => ?_)
    refine hx_gd ?_
    first | exact hx_some rfl h | exact hx_some rfl trivial
noncomputable def h_X2_act_193 (x1 x2 x3 : Int) (μ : cM) : Option cO :=
  hcj (h_X2_packed 1 μ) fun v2 μ3 =>
  hciT (h_X2_find v2 μ3) (fun n a μ5 => some (n + 1, zr a, μ5)) fun v4 μ5 =>
  hcvT (h_X2_add x1 v4 x2 x3 μ5) (fun n a μ6 => some (n + 1, zr a, μ6)) fun μ6 =>
  some (0, ((3, 0) : zV), μ6)
theorem eh_X2_act_193 {B : Nat} {τ : zM} {x1 x2 x3 : Int} {μ : cM} (h : cOK B τ μ.2) : hR (hf B) (hp B τ) (f_X2_act_193 (cad B 2 0) x1 x2 x3 (cw B μ)) (h_X2_act_193 x1 x2 x3 μ) := by
  unfold f_X2_act_193 h_X2_act_193
  refine he_gr h (f := 212) (c := 2) (o := 0) ⟨by decide, by decide⟩ rfl ?_
  refine hx_is h ⟨rfl, by decide, by decide⟩ ?_
  refine hx_cj (eh_X2_packed h) (fun v2 μ3 h => ?_)
  refine hx_is h ⟨rfl, by decide, by decide⟩ ?_
  refine hx_ciT (eh_X2_find h) (fun n a μ5 h => hx_some rfl h) (fun v4 μ5 h => ?_)
  refine hx_is h ⟨rfl, by decide, by decide⟩ ?_
  refine hx_cvT (eh_X2_add h) (fun n a μ6 h => hx_some rfl h) (fun μ6 h => ?_)
  first | exact hx_some rfl h | exact hx_some rfl trivial
noncomputable def h_X2_act_170 (x1 x2 x3 : Int) (μ : cM) : Option cO :=
  hwl (hS μ 303 1 0) fun μ2 =>
  hcv (h_X2_leave x2 μ2) fun μ3 =>
  if x3 = (-1) then
    h_X2_act_193 x1 x2 x3 μ3
  else
    hcv (h_X2_leave x3 μ3) fun μ4 =>
    h_X2_act_193 x1 x2 x3 μ4
theorem eh_X2_act_170 {B : Nat} {τ : zM} {x1 x2 x3 : Int} {μ : cM} (h : cOK B τ μ.2) : hR (hf B) (hp B τ) (f_X2_act_170 (cad B 2 0) x1 x2 x3 (cw B μ)) (h_X2_act_170 x1 x2 x3 μ) := by
  unfold f_X2_act_170 h_X2_act_170
  refine he_gr h (f := 212) (c := 2) (o := 0) ⟨by decide, by decide⟩ rfl ?_
  refine he_ps h (f := 303) (c := 3) (o := 1) ⟨rfl, by decide, by decide⟩ rfl (fun μ2 h => ?_)
  refine hx_is h ⟨rfl, by decide, by decide⟩ ?_
  refine hx_cv (eh_X2_leave h) (fun μ3 h => ?_)
  refine hx_if ?_ ?_
  · exact (eh_X2_act_193 h)
  · refine hx_is h ⟨rfl, by decide, by decide⟩ ?_
    refine hx_cv (eh_X2_leave h) (fun μ4 h => ?_)
    exact (eh_X2_act_193 h)
noncomputable def h_X2_act_48 (x1 x2 x3 x4 t0 : Int) (μ : cM) : Option cO :=
  (zgf μ.2 1100 x4).bind fun v1 =>
  if v1 ≠ (-2) then
    (zgf μ.2 1100 x4).bind fun v2 =>
    if v2 ≠ (-5) then
      if x3 = (-1) then
        (zgf μ.2 1100 x4).bind fun v3 =>
        if v3 ≠ (-4) then
          h_X2_act_170 x1 x2 x3 μ
        else
          (zgf μ.2 1107 x4).bind fun v5 =>
          hcv (h_X3_put 1 v5 t0 μ) fun μ6 =>
          h_X2_act_170 x1 x2 x3 μ6
      else
        (hga μ 207 0 x3).bind fun v10 =>
        (zgf μ.2 1108 v10).bind fun v11 =>
        (hpa μ 300 1 v11 t0).bind fun μ12 =>
        h_X2_act_170 x1 x2 x3 μ12
    else
      (zgf μ.2 1108 x4).bind fun v15 =>
      (zgf μ.2 1107 x4).bind fun v17 =>
      hci (h_X3_get 1 v17 μ) fun v18 μ19 =>
      (hpa μ19 300 1 v15 v18).bind fun μ20 =>
      h_X2_act_170 x1 x2 x3 μ20
  else
    (zgf μ.2 1107 x4).bind fun v23 =>
    (hpa μ 300 1 v23 t0).bind fun μ24 =>
    h_X2_act_170 x1 x2 x3 μ24
theorem eh_X2_act_48 {B : Nat} {τ : zM} {x1 x2 x3 x4 t0 : Int} {μ : cM} (h : cOK B τ μ.2) : hR (hf B) (hp B τ) (f_X2_act_48 (cad B 2 0) x1 x2 x3 x4 t0 (cw B μ)) (h_X2_act_48 x1 x2 x3 x4 t0 μ) := by
  unfold f_X2_act_48 h_X2_act_48
  refine he_gd 1100 rfl (fun v1 => ?_)
  refine hx_if ?_ ?_
  · refine he_gd 1100 rfl (fun v2 => ?_)
    refine hx_if ?_ ?_
    · refine hx_if ?_ ?_
      · refine he_gd 1100 rfl (fun v3 => ?_)
        refine hx_if ?_ ?_
        · exact (eh_X2_act_170 h)
        · refine he_gr h (f := 212) (c := 2) (o := 0) ⟨by decide, by decide⟩ rfl ?_
          refine he_gd 1107 rfl (fun v5 => ?_)
          refine hx_is h ⟨rfl, by decide, by decide⟩ ?_
          refine hx_cv (eh_X3_put h) (fun μ6 h => ?_)
          exact (eh_X2_act_170 h)
      · refine he_gr h (f := 212) (c := 2) (o := 0) ⟨by decide, by decide⟩ rfl ?_
        refine he_gA h (f := 300) (c := 3) (o := 1) ⟨rfl, by decide⟩ rfl ?_
        refine he_gA h (f := 207) (c := 2) (o := 0) ⟨rfl, by decide⟩ rfl ?_
        refine he_ga h (f := 207) (o := 0) ⟨⟨rfl, by decide, by decide⟩, rfl⟩ (fun v10 => ?_)
        refine he_gd 1108 rfl (fun v11 => ?_)
        refine he_pa h (f := 300) (o := 1) ⟨⟨rfl, by decide, by decide⟩, rfl⟩ (fun μ12 h => ?_)
        exact (eh_X2_act_170 h)
    · refine he_gr h (f := 212) (c := 2) (o := 0) ⟨by decide, by decide⟩ rfl ?_
      refine he_gA h (f := 300) (c := 3) (o := 1) ⟨rfl, by decide⟩ rfl ?_
      refine he_gd 1108 rfl (fun v15 => ?_)
      refine he_gr h (f := 212) (c := 2) (o := 0) ⟨by decide, by decide⟩ rfl ?_
      refine he_gd 1107 rfl (fun v17 => ?_)
      refine hx_is h ⟨rfl, by decide, by decide⟩ ?_
      refine hx_ci (eh_X3_get h) (fun v18 μ19 h => ?_)
      refine he_pa h (f := 300) (o := 1) ⟨⟨rfl, by decide, by decide⟩, rfl⟩ (fun μ20 h => ?_)
      exact (eh_X2_act_170 h)
  · refine he_gr h (f := 212) (c := 2) (o := 0) ⟨by decide, by decide⟩ rfl ?_
    refine he_gA h (f := 300) (c := 3) (o := 1) ⟨rfl, by decide⟩ rfl ?_
    refine he_gd 1107 rfl (fun v23 => ?_)
    refine he_pa h (f := 300) (o := 1) ⟨⟨rfl, by decide, by decide⟩, rfl⟩ (fun μ24 h => ?_)
    exact (eh_X2_act_170 h)
noncomputable def h_X2_act (x1 x2 x3 : Int) (μ : cM) : Option cO :=
  hcv (h_X3_copy 1 0 μ) fun μ3 =>
  (hga μ3 207 0 x2).bind fun v5 =>
  (zgf μ3.2 1111 v5).bind fun v6 =>
  if v6 ≠ (-1) then
    (zgf μ3.2 1111 v5).bind fun v7 =>
    hci ((if zis μ3.2 13 v7 = true then h_X12_of v7 0 μ3 else (if zis μ3.2 14 v7 = true then h_X13_of v7 0 μ3 else (if zis μ3.2 15 v7 = true then h_G_X14_of 40 0 [v7, 0] μ3 else none)))) fun v10 μ11 =>
    h_X2_act_48 x1 x2 x3 v5 v10 μ11
  else
    h_X2_act_48 x1 x2 x3 v5 0 μ3
theorem eh_X2_act {B : Nat} {τ : zM} {x1 x2 x3 : Int} {μ : cM} (h : cOK B τ μ.2) : hR (hf B) (hp B τ) (f_X2_act (cad B 2 0) x1 x2 x3 (cw B μ)) (h_X2_act x1 x2 x3 μ) := by
  unfold f_X2_act h_X2_act
  refine he_gr h (f := 212) (c := 2) (o := 0) ⟨by decide, by decide⟩ rfl ?_
  refine he_gr h (f := 211) (c := 2) (o := 0) ⟨by decide, by decide⟩ rfl ?_
  refine hx_is h ⟨rfl, by decide, by decide⟩ ?_
  refine hx_cv (eh_X3_copy h) (fun μ3 h => ?_)
  refine he_gA h (f := 207) (c := 2) (o := 0) ⟨rfl, by decide⟩ rfl ?_
  refine he_ga h (f := 207) (o := 0) ⟨⟨rfl, by decide, by decide⟩, rfl⟩ (fun v5 => ?_)
  refine he_gd 1111 rfl (fun v6 => ?_)
  refine hx_if ?_ ?_
  · refine he_gd 1111 rfl (fun v7 => ?_)
    refine he_gr h (f := 211) (c := 2) (o := 0) ⟨by decide, by decide⟩ rfl ?_
    refine he_gA h (f := 300) (c := 3) (o := 0) ⟨rfl, by decide⟩ rfl ?_
    refine hx_ci (hx_if (eh_X12_of h) (hx_if (eh_X13_of h) (hx_if ((eh_G_X14_of B τ 40).1 h) (hR_none _ _)))) (fun v10 μ11 h => ?_)
    exact (eh_X2_act_48 h)
  · exact (eh_X2_act_48 h)
noncomputable def h_X2_expand_237 (x1 : Int) (μ : cM) : Option cO :=
  zlet (hG μ 221 0) fun v2 =>
  (hpa μ 215 0 (zadd x1 1) v2).bind fun μ3 =>
  some (0, ((3, 0) : zV), μ3)
theorem eh_X2_expand_237 {B : Nat} {τ : zM} {x1 : Int} {μ : cM} (h : cOK B τ μ.2) : hR (hf B) (hp B τ) (f_X2_expand_237 (cad B 2 0) x1 (cw B μ)) (h_X2_expand_237 x1 μ) := by
  unfold f_X2_expand_237 h_X2_expand_237
  refine he_gA h (f := 215) (c := 2) (o := 0) ⟨rfl, by decide⟩ rfl ?_
  refine he_gs h (f := 221) (c := 2) (o := 0) ⟨rfl, by decide, by decide⟩ rfl (fun v2 => ?_)
  refine he_pa h (f := 215) (o := 0) ⟨⟨rfl, by decide, by decide⟩, rfl⟩ (fun μ3 h => ?_)
  first | exact hx_some rfl h | exact hx_some rfl trivial
noncomputable def h_X2_expand_216 (x1 : Int) (μ : cM) : Option cO :=
  (hga μ 215 0 x1).bind fun v2 =>
  zlet (hG μ 221 0) fun v3 =>
  if v2 ≠ v3 then
    h_X2_expand_237 x1 μ
  else
    hcvT (h_X2_add x1 x1 (-1) (-1) μ) (fun n a μ4 => some (n + 1, zr a, μ4)) fun μ4 =>
    h_X2_expand_237 x1 μ4
theorem eh_X2_expand_216 {B : Nat} {τ : zM} {x1 : Int} {μ : cM} (h : cOK B τ μ.2) : hR (hf B) (hp B τ) (f_X2_expand_216 (cad B 2 0) x1 (cw B μ)) (h_X2_expand_216 x1 μ) := by
  unfold f_X2_expand_216 h_X2_expand_216
  refine he_gA h (f := 215) (c := 2) (o := 0) ⟨rfl, by decide⟩ rfl ?_
  refine he_ga h (f := 215) (o := 0) ⟨⟨rfl, by decide, by decide⟩, rfl⟩ (fun v2 => ?_)
  refine he_gs h (f := 221) (c := 2) (o := 0) ⟨rfl, by decide, by decide⟩ rfl (fun v3 => ?_)
  refine hx_if ?_ ?_
  · exact (eh_X2_expand_237 h)
  · refine hx_is h ⟨rfl, by decide, by decide⟩ ?_
    refine hx_cvT (eh_X2_add h) (fun n a μ4 h => hx_some rfl h) (fun μ4 h => ?_)
    exact (eh_X2_expand_237 h)
noncomputable def h_X2_expand_210 (x1 x2 x3 : Int) (μ : cM) : Option ((Int × cM) ⊕ cO) :=
  zlet (zadd x3 1) fun y1 =>
  some (.inl (y1, μ))
theorem eh_X2_expand_210 {B : Nat} {τ : zM} {x1 x2 x3 : Int} {μ : cM} (h : cOK B τ μ.2) : hR (Sum.map (fun s => (s.1, cw B s.2)) (hf B)) (Sum.elim (fun s : Int × cM => cOK B τ s.2.2) (hp B τ)) (f_X2_expand_210 (cad B 2 0) x1 x2 x3 (cw B μ)) (h_X2_expand_210 x1 x2 x3 μ) := by
  unfold f_X2_expand_210 h_X2_expand_210
  refine hx_let (fun y1 => ?_)
  first | exact hx_some rfl h | exact hx_some rfl trivial
noncomputable def h_X2_expand_203 (x1 x2 x3 : Int) (μ : cM) : Option ((Int × cM) ⊕ cO) :=
  hcvT (h_X2_act x1 x3 (-1) μ) (fun n a μ1 => some (.inr (n + 1, zr a, μ1))) fun μ1 =>
  h_X2_expand_210 x1 x2 x3 μ1
theorem eh_X2_expand_203 {B : Nat} {τ : zM} {x1 x2 x3 : Int} {μ : cM} (h : cOK B τ μ.2) : hR (Sum.map (fun s => (s.1, cw B s.2)) (hf B)) (Sum.elim (fun s : Int × cM => cOK B τ s.2.2) (hp B τ)) (f_X2_expand_203 (cad B 2 0) x1 x2 x3 (cw B μ)) (h_X2_expand_203 x1 x2 x3 μ) := by
  unfold f_X2_expand_203 h_X2_expand_203
  refine hx_is h ⟨rfl, by decide, by decide⟩ ?_
  refine hx_cvT (eh_X2_act h) (fun n a μ1 h => hx_some rfl h) (fun μ1 h => ?_)
  exact (eh_X2_expand_210 h)
noncomputable def h_X2_expand_171 (x1 x2 x3 x4 x5 : Int) (μ : cM) : Option ((Int × cM) ⊕ cO) :=
  (zgf μ.2 1100 x5).bind fun v1 =>
  if v1 ≠ (-7) then
    hci (h_X2_can x3 μ) fun v2 μ3 =>
    if v2 = 0 then
      h_X2_expand_210 x1 x2 x3 μ3
    else
      h_X2_expand_203 x1 x2 x3 μ3
  else
    hci (h_X2_acts x4 0 μ) fun v4 μ5 =>
    if v4 ≠ 0 then
      h_X2_expand_210 x1 x2 x3 μ5
    else
      h_X2_expand_203 x1 x2 x3 μ5
theorem eh_X2_expand_171 {B : Nat} {τ : zM} {x1 x2 x3 x4 x5 : Int} {μ : cM} (h : cOK B τ μ.2) : hR (Sum.map (fun s => (s.1, cw B s.2)) (hf B)) (Sum.elim (fun s : Int × cM => cOK B τ s.2.2) (hp B τ)) (f_X2_expand_171 (cad B 2 0) x1 x2 x3 x4 x5 (cw B μ)) (h_X2_expand_171 x1 x2 x3 x4 x5 μ) := by
  unfold f_X2_expand_171 h_X2_expand_171
  refine he_gd 1100 rfl (fun v1 => ?_)
  refine hx_if ?_ ?_
  · refine hx_is h ⟨rfl, by decide, by decide⟩ ?_
    refine hx_ci (eh_X2_can h) (fun v2 μ3 h => ?_)
    refine hx_if ?_ ?_
    · exact (eh_X2_expand_210 h)
    · exact (eh_X2_expand_203 h)
  · refine hx_is h ⟨rfl, by decide, by decide⟩ ?_
    refine hx_ci (eh_X2_acts h) (fun v4 μ5 h => ?_)
    refine hx_if ?_ ?_
    · exact (eh_X2_expand_210 h)
    · exact (eh_X2_expand_203 h)
noncomputable def h_X2_expand_168 (x1 x2 x3 : Int) (μ : cM) : Option ((Int × cM) ⊕ cO) :=
  h_X2_expand_210 x1 x2 x3 μ
theorem eh_X2_expand_168 {B : Nat} {τ : zM} {x1 x2 x3 : Int} {μ : cM} (h : cOK B τ μ.2) : hR (Sum.map (fun s => (s.1, cw B s.2)) (hf B)) (Sum.elim (fun s : Int × cM => cOK B τ s.2.2) (hp B τ)) (f_X2_expand_168 (cad B 2 0) x1 x2 x3 (cw B μ)) (h_X2_expand_168 x1 x2 x3 μ) := by
  unfold f_X2_expand_168 h_X2_expand_168
  exact (eh_X2_expand_210 h)
noncomputable def h_X2_expand_162 (x1 x2 x3 x6 : Int) (μ : cM) : Option ((Int × cM) ⊕ ((Int × cM) ⊕ cO)) :=
  zlet (zadd x6 1) fun y1 =>
  some (.inl (y1, μ))
theorem eh_X2_expand_162 {B : Nat} {τ : zM} {x1 x2 x3 x6 : Int} {μ : cM} (h : cOK B τ μ.2) : hR (Sum.map (fun s => (s.1, cw B s.2)) (Sum.map (fun s => (s.1, cw B s.2)) (hf B))) (Sum.elim (fun s : Int × cM => cOK B τ s.2.2) (Sum.elim (fun s : Int × cM => cOK B τ s.2.2) (hp B τ))) (f_X2_expand_162 (cad B 2 0) x1 x2 x3 x6 (cw B μ)) (h_X2_expand_162 x1 x2 x3 x6 μ) := by
  unfold f_X2_expand_162 h_X2_expand_162
  refine hx_let (fun y1 => ?_)
  first | exact hx_some rfl h | exact hx_some rfl trivial
noncomputable def h_X2_expand_135_b (x1 x2 x3 x6 : Int) (μ : cM) : Option ((Int × cM) ⊕ ((Int × cM) ⊕ cO)) :=
  zlet (hG μ 205 0) fun v1 =>
  if v1 ≤ x6 then
    (h_X2_expand_168 x1 x2 x3 μ).map (fun r => (.inr r))
  else
    hci (h_X2_meets x3 x6 μ) fun v2 μ3 =>
    if v2 = 0 then
      h_X2_expand_162 x1 x2 x3 x6 μ3
    else
      hcvT (h_X2_act x1 x3 x6 μ3) (fun n a μ4 => some (.inr (.inr (n + 1, zr a, μ4)))) fun μ4 =>
      h_X2_expand_162 x1 x2 x3 x6 μ4
theorem eh_X2_expand_135_b {B : Nat} {τ : zM} {x1 x2 x3 x6 : Int} {μ : cM} (h : cOK B τ μ.2) : hR (Sum.map (fun s => (s.1, cw B s.2)) (Sum.map (fun s => (s.1, cw B s.2)) (hf B))) (Sum.elim (fun s : Int × cM => cOK B τ s.2.2) (Sum.elim (fun s : Int × cM => cOK B τ s.2.2) (hp B τ))) (f_X2_expand_135_b (cad B 2 0) x1 x2 x3 x6 (cw B μ)) (h_X2_expand_135_b x1 x2 x3 x6 μ) := by
  unfold f_X2_expand_135_b h_X2_expand_135_b
  refine he_gs h (f := 205) (c := 2) (o := 0) ⟨rfl, by decide, by decide⟩ rfl (fun v1 => ?_)
  refine hx_if ?_ ?_
  · exact hx_map (eh_X2_expand_168 h) (fun r => rfl) (fun r q => q)
  · refine hx_is h ⟨rfl, by decide, by decide⟩ ?_
    refine hx_ci (eh_X2_meets h) (fun v2 μ3 h => ?_)
    refine hx_if ?_ ?_
    · exact (eh_X2_expand_162 h)
    · refine hx_is h ⟨rfl, by decide, by decide⟩ ?_
      refine hx_cvT (eh_X2_act h) (fun n a μ4 h => hx_some rfl h) (fun μ4 h => ?_)
      exact (eh_X2_expand_162 h)
noncomputable def h_X2_expand_135 (x1 x2 x3 x6 : Int) (μ : cM) : Option ((Int × cM) ⊕ cO) :=
  zloop (fun s : Int × cM => h_X2_expand_135_b x1 x2 x3 s.1 s.2) (x6, μ)
theorem eh_X2_expand_135 {B : Nat} {τ : zM} {x1 x2 x3 x6 : Int} {μ : cM} (h : cOK B τ μ.2) : hR (Sum.map (fun s => (s.1, cw B s.2)) (hf B)) (Sum.elim (fun s : Int × cM => cOK B τ s.2.2) (hp B τ)) (f_X2_expand_135 (cad B 2 0) x1 x2 x3 x6 (cw B μ)) (h_X2_expand_135 x1 x2 x3 x6 μ) := by
  unfold f_X2_expand_135 h_X2_expand_135
  refine hx_loop (φ := (fun s => (s.1, cw B s.2))) (Ps := (fun s : Int × cM => cOK B τ s.2.2)) (s := (x6, μ)) h (fun s hs => ?_)
  exact eh_X2_expand_135_b hs
noncomputable def h_X2_expand_89 (x1 x2 x3 x4 : Int) (μ : cM) : Option ((Int × cM) ⊕ cO) :=
  hci (h_X2_isAt x3 μ) fun v1 μ2 =>
  if v1 ≠ 0 then
    (hga μ2 207 0 x3).bind fun v4 =>
    (zgf μ2.2 1100 v4).bind fun v5 =>
    if v5 ≠ (-4) then
      h_X2_expand_171 x1 x2 x3 x4 v4 μ2
    else
      (zgf μ2.2 1107 v4).bind fun v7 =>
      (hga μ2 201 0 v7).bind fun v8 =>
      if v8 ≠ 0 then
        h_X2_expand_171 x1 x2 x3 x4 v4 μ2
      else
        h_X2_expand_135 x1 x2 x3 0 μ2
  else
    h_X2_expand_210 x1 x2 x3 μ2
theorem eh_X2_expand_89 {B : Nat} {τ : zM} {x1 x2 x3 x4 : Int} {μ : cM} (h : cOK B τ μ.2) : hR (Sum.map (fun s => (s.1, cw B s.2)) (hf B)) (Sum.elim (fun s : Int × cM => cOK B τ s.2.2) (hp B τ)) (f_X2_expand_89 (cad B 2 0) x1 x2 x3 x4 (cw B μ)) (h_X2_expand_89 x1 x2 x3 x4 μ) := by
  unfold f_X2_expand_89 h_X2_expand_89
  refine hx_is h ⟨rfl, by decide, by decide⟩ ?_
  refine hx_ci (eh_X2_isAt h) (fun v1 μ2 h => ?_)
  refine hx_if ?_ ?_
  · refine he_gA h (f := 207) (c := 2) (o := 0) ⟨rfl, by decide⟩ rfl ?_
    refine he_ga h (f := 207) (o := 0) ⟨⟨rfl, by decide, by decide⟩, rfl⟩ (fun v4 => ?_)
    refine he_gd 1100 rfl (fun v5 => ?_)
    refine hx_if ?_ ?_
    · exact (eh_X2_expand_171 h)
    · refine he_gA h (f := 201) (c := 2) (o := 0) ⟨rfl, by decide⟩ rfl ?_
      refine he_gd 1107 rfl (fun v7 => ?_)
      refine he_ga h (f := 201) (o := 0) ⟨⟨rfl, by decide, by decide⟩, rfl⟩ (fun v8 => ?_)
      refine hx_if ?_ ?_
      · exact (eh_X2_expand_171 h)
      · exact (eh_X2_expand_135 h)
  · exact (eh_X2_expand_210 h)
noncomputable def h_X2_expand_62_b (x1 x2 x3 : Int) (μ : cM) : Option ((Int × cM) ⊕ cO) :=
  zlet (hG μ 205 0) fun v1 =>
  if v1 ≤ x3 then
    (h_X2_expand_216 x1 μ).map (fun r => (.inr r))
  else
    (hga μ 208 0 x3).bind fun v3 =>
    if x2 = (-1) then
      h_X2_expand_89 x1 x2 x3 v3 μ
    else
      if x2 ≠ v3 then
        h_X2_expand_210 x1 x2 x3 μ
      else
        h_X2_expand_89 x1 x2 x3 v3 μ
theorem eh_X2_expand_62_b {B : Nat} {τ : zM} {x1 x2 x3 : Int} {μ : cM} (h : cOK B τ μ.2) : hR (Sum.map (fun s => (s.1, cw B s.2)) (hf B)) (Sum.elim (fun s : Int × cM => cOK B τ s.2.2) (hp B τ)) (f_X2_expand_62_b (cad B 2 0) x1 x2 x3 (cw B μ)) (h_X2_expand_62_b x1 x2 x3 μ) := by
  unfold f_X2_expand_62_b h_X2_expand_62_b
  refine he_gs h (f := 205) (c := 2) (o := 0) ⟨rfl, by decide, by decide⟩ rfl (fun v1 => ?_)
  refine hx_if ?_ ?_
  · exact hx_map (eh_X2_expand_216 h) (fun r => rfl) (fun r q => q)
  · refine he_gA h (f := 208) (c := 2) (o := 0) ⟨rfl, by decide⟩ rfl ?_
    refine he_ga h (f := 208) (o := 0) ⟨⟨rfl, by decide, by decide⟩, rfl⟩ (fun v3 => ?_)
    refine hx_if ?_ ?_
    · exact (eh_X2_expand_89 h)
    · refine hx_if ?_ ?_
      · exact (eh_X2_expand_210 h)
      · exact (eh_X2_expand_89 h)
noncomputable def h_X2_expand_62 (x1 x2 x3 : Int) (μ : cM) : Option cO :=
  zloop (fun s : Int × cM => h_X2_expand_62_b x1 x2 s.1 s.2) (x3, μ)
theorem eh_X2_expand_62 {B : Nat} {τ : zM} {x1 x2 x3 : Int} {μ : cM} (h : cOK B τ μ.2) : hR (hf B) (hp B τ) (f_X2_expand_62 (cad B 2 0) x1 x2 x3 (cw B μ)) (h_X2_expand_62 x1 x2 x3 μ) := by
  unfold f_X2_expand_62 h_X2_expand_62
  refine hx_loop (φ := (fun s => (s.1, cw B s.2))) (Ps := (fun s : Int × cM => cOK B τ s.2.2)) (s := (x3, μ)) h (fun s hs => ?_)
  exact eh_X2_expand_62_b hs
noncomputable def h_X2_expand_59 (x1 t0 : Int) (μ : cM) : Option cO :=
  h_X2_expand_62 x1 t0 0 μ
theorem eh_X2_expand_59 {B : Nat} {τ : zM} {x1 t0 : Int} {μ : cM} (h : cOK B τ μ.2) : hR (hf B) (hp B τ) (f_X2_expand_59 (cad B 2 0) x1 t0 (cw B μ)) (h_X2_expand_59 x1 t0 μ) := by
  unfold f_X2_expand_59 h_X2_expand_59
  exact (eh_X2_expand_62 h)
noncomputable def h_X2_expand_58 (x1 : Int) (μ : cM) : Option cO :=
  h_X2_expand_59 x1 (-1) μ
theorem eh_X2_expand_58 {B : Nat} {τ : zM} {x1 : Int} {μ : cM} (h : cOK B τ μ.2) : hR (hf B) (hp B τ) (f_X2_expand_58 (cad B 2 0) x1 (cw B μ)) (h_X2_expand_58 x1 μ) := by
  unfold f_X2_expand_58 h_X2_expand_58
  exact (eh_X2_expand_59 h)
noncomputable def h_X2_expand (x1 : Int) (μ : cM) : Option cO :=
  zlet (hG μ 221 0) fun v2 =>
  (hpa μ 215 0 x1 v2).bind fun μ3 =>
  hcv (h_X2_unpack x1 0 μ3) fun μ5 =>
  zlet (hG μ5 303 0) fun v7 =>
  if v7 ≤ 0 then
    h_X2_expand_58 x1 μ5
  else
    zlet (hG μ5 303 0) fun v9 =>
    hci (h_X2_acts (zsub v9 1) 1 μ5) fun v10 μ11 =>
    if v10 = 0 then
      h_X2_expand_58 x1 μ11
    else
      zlet (hG μ11 303 0) fun v13 =>
      h_X2_expand_59 x1 (zsub v13 1) μ11
theorem eh_X2_expand {B : Nat} {τ : zM} {x1 : Int} {μ : cM} (h : cOK B τ μ.2) : hR (hf B) (hp B τ) (f_X2_expand (cad B 2 0) x1 (cw B μ)) (h_X2_expand x1 μ) := by
  unfold f_X2_expand h_X2_expand
  refine he_gA h (f := 215) (c := 2) (o := 0) ⟨rfl, by decide⟩ rfl ?_
  refine he_gs h (f := 221) (c := 2) (o := 0) ⟨rfl, by decide, by decide⟩ rfl (fun v2 => ?_)
  refine he_pa h (f := 215) (o := 0) ⟨⟨rfl, by decide, by decide⟩, rfl⟩ (fun μ3 h => ?_)
  refine he_gr h (f := 211) (c := 2) (o := 0) ⟨by decide, by decide⟩ rfl ?_
  refine hx_is h ⟨rfl, by decide, by decide⟩ ?_
  refine hx_cv (eh_X2_unpack h) (fun μ5 h => ?_)
  refine he_gr h (f := 211) (c := 2) (o := 0) ⟨by decide, by decide⟩ rfl ?_
  refine he_gs h (f := 303) (c := 3) (o := 0) ⟨rfl, by decide, by decide⟩ rfl (fun v7 => ?_)
  refine hx_if ?_ ?_
  · exact (eh_X2_expand_58 h)
  · refine he_gr h (f := 211) (c := 2) (o := 0) ⟨by decide, by decide⟩ rfl ?_
    refine he_gs h (f := 303) (c := 3) (o := 0) ⟨rfl, by decide, by decide⟩ rfl (fun v9 => ?_)
    refine hx_is h ⟨rfl, by decide, by decide⟩ ?_
    refine hx_ci (eh_X2_acts h) (fun v10 μ11 h => ?_)
    refine hx_if ?_ ?_
    · exact (eh_X2_expand_58 h)
    · refine he_gr h (f := 211) (c := 2) (o := 0) ⟨by decide, by decide⟩ rfl ?_
      refine he_gs h (f := 303) (c := 3) (o := 0) ⟨rfl, by decide, by decide⟩ rfl (fun v13 => ?_)
      exact (eh_X2_expand_59 h)
noncomputable def h_X2_explore_143 (μ : cM) : Option cO :=
  some (0, ((3, 0) : zV), μ)
theorem eh_X2_explore_143 {B : Nat} {τ : zM} {μ : cM} (h : cOK B τ μ.2) : hR (hf B) (hp B τ) (f_X2_explore_143  (cw B μ)) (h_X2_explore_143  μ) := by
  unfold f_X2_explore_143 h_X2_explore_143
  first | exact hx_some rfl h | exact hx_some rfl trivial
noncomputable def h_X2_explore_124_b (x1 : Int) (μ : cM) : Option ((Int × cM) ⊕ cO) :=
  zlet (hG μ 220 0) fun v1 =>
  if v1 ≤ x1 then
    (h_X2_explore_143 μ).map (fun r => (.inr r))
  else
    hcvT (h_X2_expand x1 μ) (fun n a μ2 => some (.inr (n + 1, zr a, μ2))) fun μ2 =>
    zlet (zadd x1 1) fun y3 =>
    some (.inl (y3, μ2))
theorem eh_X2_explore_124_b {B : Nat} {τ : zM} {x1 : Int} {μ : cM} (h : cOK B τ μ.2) : hR (Sum.map (fun s => (s.1, cw B s.2)) (hf B)) (Sum.elim (fun s : Int × cM => cOK B τ s.2.2) (hp B τ)) (f_X2_explore_124_b (cad B 2 0) x1 (cw B μ)) (h_X2_explore_124_b x1 μ) := by
  unfold f_X2_explore_124_b h_X2_explore_124_b
  refine he_gs h (f := 220) (c := 2) (o := 0) ⟨rfl, by decide, by decide⟩ rfl (fun v1 => ?_)
  refine hx_if ?_ ?_
  · exact hx_map (eh_X2_explore_143 h) (fun r => rfl) (fun r q => q)
  · refine hx_is h ⟨rfl, by decide, by decide⟩ ?_
    refine hx_cvT (eh_X2_expand h) (fun n a μ2 h => hx_some rfl h) (fun μ2 h => ?_)
    refine hx_let (fun y3 => ?_)
    first | exact hx_some rfl h | exact hx_some rfl trivial
noncomputable def h_X2_explore_124 (x1 : Int) (μ : cM) : Option cO :=
  zloop (fun s : Int × cM => h_X2_explore_124_b s.1 s.2) (x1, μ)
theorem eh_X2_explore_124 {B : Nat} {τ : zM} {x1 : Int} {μ : cM} (h : cOK B τ μ.2) : hR (hf B) (hp B τ) (f_X2_explore_124 (cad B 2 0) x1 (cw B μ)) (h_X2_explore_124 x1 μ) := by
  unfold f_X2_explore_124 h_X2_explore_124
  refine hx_loop (φ := (fun s => (s.1, cw B s.2))) (Ps := (fun s : Int × cM => cOK B τ s.2.2)) (s := (x1, μ)) h (fun s hs => ?_)
  exact eh_X2_explore_124_b hs

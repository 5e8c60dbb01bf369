set_option maxRecDepth 100000
noncomputable def h_X8_falsifies_268 (x3 x4 x5 : Int) (μ : cM) : Option cO :=
  zloop (fun s : Int × cM => h_X8_falsifies_268_b x3 x4 s.1 s.2) (x5, μ)
theorem eh_X8_falsifies_268 {B : Nat} {τ : zM} {x3 x4 x5 : Int} {μ : cM} (h : cOK B τ μ.2) : hR (hf B) (hp B τ) (f_X8_falsifies_268 (cad B 8 0) x3 x4 x5 (cw B μ)) (h_X8_falsifies_268 x3 x4 x5 μ) := by
  unfold f_X8_falsifies_268 h_X8_falsifies_268
  refine hx_loop (φ := (fun s => (s.1, cw B s.2))) (Ps := (fun s : Int × cM => cOK B τ s.2.2)) (s := (x5, μ)) h (fun s hs => ?_)
  exact eh_X8_falsifies_268_b hs
noncomputable def h_X8_falsifies_258 (x3 x4 : Int) (μ : cM) : Option cO :=
  hwl (hS μ 822 0 3840) fun μ1 =>
  h_X8_falsifies_268 x3 x4 0 μ1
theorem eh_X8_falsifies_258 {B : Nat} {τ : zM} {x3 x4 : Int} {μ : cM} (h : cOK B τ μ.2) : hR (hf B) (hp B τ) (f_X8_falsifies_258 (cad B 8 0) x3 x4 (cw B μ)) (h_X8_falsifies_258 x3 x4 μ) := by
  unfold f_X8_falsifies_258 h_X8_falsifies_258
  refine he_ps h (f := 822) (c := 8) (o := 0) ⟨rfl, by decide, by decide⟩ rfl (fun μ1 h => ?_)
  exact (eh_X8_falsifies_268 h)
noncomputable def h_X8_falsifies_201 (x3 x4 x5 x6 : Int) (μ : cM) : Option ((Int × Int × Int × cM) ⊕ cO) :=
  zlet (hG μ 821 0) fun v1 =>
  hci (h_X8_nearer x4 x3 x6 (zsub (zsub v1 x5) 1) μ) fun v2 μ3 =>
  (hga μ3 215 0 x4).bind fun v7 =>
  (hpa μ3 818 0 x5 (zsub x6 v7)).bind fun μ8 =>
  (hga μ8 217 0 x6).bind fun v11 =>
  zlet (zadd x5 1) fun y12 =>
  some (.inl (v2, v11, y12, μ8))
theorem eh_X8_falsifies_201 {B : Nat} {τ : zM} {x3 x4 x5 x6 : Int} {μ : cM} (h : cOK B τ μ.2) : hR (Sum.map (fun s => (s.1, s.2.1, s.2.2.1, cw B s.2.2.2)) (hf B)) (Sum.elim (fun s : Int × Int × Int × cM => cOK B τ s.2.2.2.2) (hp B τ)) (f_X8_falsifies_201 (cad B 8 0) x3 x4 x5 x6 (cw B μ)) (h_X8_falsifies_201 x3 x4 x5 x6 μ) := by
  unfold f_X8_falsifies_201 h_X8_falsifies_201
  refine he_gs h (f := 821) (c := 8) (o := 0) ⟨rfl, by decide, by decide⟩ rfl (fun v1 => ?_)
  refine hx_is h ⟨rfl, by decide, by decide⟩ ?_
  refine hx_ci (eh_X8_nearer h) (fun v2 μ3 h => ?_)
  refine he_gA h (f := 818) (c := 8) (o := 0) ⟨rfl, by decide⟩ rfl ?_
  refine he_gr h (f := 800) (c := 8) (o := 0) ⟨by decide, by decide⟩ rfl ?_
  refine he_gA h (f := 215) (c := 2) (o := 0) ⟨rfl, by decide⟩ rfl ?_
  refine he_ga h (f := 215) (o := 0) ⟨⟨rfl, by decide, by decide⟩, rfl⟩ (fun v7 => ?_)
  refine he_pa h (f := 818) (o := 0) ⟨⟨rfl, by decide, by decide⟩, rfl⟩ (fun μ8 h => ?_)
  refine he_gr h (f := 800) (c := 8) (o := 0) ⟨by decide, by decide⟩ rfl ?_
  refine he_gA h (f := 217) (c := 2) (o := 0) ⟨rfl, by decide⟩ rfl ?_
  refine he_ga h (f := 217) (o := 0) ⟨⟨rfl, by decide, by decide⟩, rfl⟩ (fun v11 => ?_)
  refine hx_let (fun y12 => ?_)
  first | exact hx_some rfl h | exact hx_some rfl trivial
noncomputable def h_X8_falsifies_155_b (x3 x4 x5 x6 : Int) (μ : cM) : Option ((Int × cM) ⊕ ((Int × Int × Int × cM) ⊕ cO)) :=
  (hga μ 215 0 (zadd x4 1)).bind fun v3 =>
  if v3 ≤ (zadd x6 1) then
    (h_X8_falsifies_201 x3 x4 x5 x6 μ).map (fun r => (.inr r))
  else
    zlet (hG μ 821 0) fun v4 =>
    hci (h_X8_nearer x4 x3 x6 (zsub (zsub v4 x5) 1) μ) fun v5 μ6 =>
    if v5 ≠ 0 then
      (h_X8_falsifies_201 x3 x4 x5 x6 μ6).map (fun r => (.inr r))
    else
      zlet (zadd x6 1) fun y7 =>
      some (.inl (y7, μ6))
theorem eh_X8_falsifies_155_b {B : Nat} {τ : zM} {x3 x4 x5 x6 : Int} {μ : cM} (h : cOK B τ μ.2) : hR (Sum.map (fun s => (s.1, cw B s.2)) (Sum.map (fun s => (s.1, s.2.1, s.2.2.1, cw B s.2.2.2)) (hf B))) (Sum.elim (fun s : Int × cM => cOK B τ s.2.2) (Sum.elim (fun s : Int × Int × Int × cM => cOK B τ s.2.2.2.2) (hp B τ))) (f_X8_falsifies_155_b (cad B 8 0) x3 x4 x5 x6 (cw B μ)) (h_X8_falsifies_155_b x3 x4 x5 x6 μ) := by
  unfold f_X8_falsifies_155_b h_X8_falsifies_155_b
  refine he_gr h (f := 800) (c := 8) (o := 0) ⟨by decide, by decide⟩ rfl ?_
  refine he_gA h (f := 215) (c := 2) (o := 0) ⟨rfl, by decide⟩ rfl ?_
  refine he_ga h (f := 215) (o := 0) ⟨⟨rfl, by decide, by decide⟩, rfl⟩ (fun v3 => ?_)
  refine hx_if ?_ ?_
  · exact hx_map (eh_X8_falsifies_201 h) (fun r => rfl) (fun r q => q)
  · refine he_gs h (f := 821) (c := 8) (o := 0) ⟨rfl, by decide, by decide⟩ rfl (fun v4 => ?_)
    refine hx_is h ⟨rfl, by decide, by decide⟩ ?_
    refine hx_ci (eh_X8_nearer h) (fun v5 μ6 h => ?_)
    refine hx_if ?_ ?_
    · exact hx_map (eh_X8_falsifies_201 h) (fun r => rfl) (fun r q => q)
    · refine hx_let (fun y7 => ?_)
      first | exact hx_some rfl h | exact hx_some rfl trivial
noncomputable def h_X8_falsifies_155 (x3 x4 x5 x6 : Int) (μ : cM) : Option ((Int × Int × Int × cM) ⊕ cO) :=
  zloop (fun s : Int × cM => h_X8_falsifies_155_b x3 x4 x5 s.1 s.2) (x6, μ)
theorem eh_X8_falsifies_155 {B : Nat} {τ : zM} {x3 x4 x5 x6 : Int} {μ : cM} (h : cOK B τ μ.2) : hR (Sum.map (fun s => (s.1, s.2.1, s.2.2.1, cw B s.2.2.2)) (hf B)) (Sum.elim (fun s : Int × Int × Int × cM => cOK B τ s.2.2.2.2) (hp B τ)) (f_X8_falsifies_155 (cad B 8 0) x3 x4 x5 x6 (cw B μ)) (h_X8_falsifies_155 x3 x4 x5 x6 μ) := by
  unfold f_X8_falsifies_155 h_X8_falsifies_155
  refine hx_loop (φ := (fun s => (s.1, cw B s.2))) (Ps := (fun s : Int × cM => cOK B τ s.2.2)) (s := (x6, μ)) h (fun s hs => ?_)
  exact eh_X8_falsifies_155_b hs
noncomputable def h_X8_falsifies_134_b (x3 x4 x5 : Int) (μ : cM) : Option ((Int × Int × Int × cM) ⊕ cO) :=
  zlet (hG μ 821 0) fun v1 =>
  if v1 ≤ x5 then
    (h_X8_falsifies_258 x3 x4 μ).map (fun r => (.inr r))
  else
    (hga μ 215 0 x4).bind fun v4 =>
    h_X8_falsifies_155 x3 x4 x5 v4 μ
theorem eh_X8_falsifies_134_b {B : Nat} {τ : zM} {x3 x4 x5 : Int} {μ : cM} (h : cOK B τ μ.2) : hR (Sum.map (fun s => (s.1, s.2.1, s.2.2.1, cw B s.2.2.2)) (hf B)) (Sum.elim (fun s : Int × Int × Int × cM => cOK B τ s.2.2.2.2) (hp B τ)) (f_X8_falsifies_134_b (cad B 8 0) x3 x4 x5 (cw B μ)) (h_X8_falsifies_134_b x3 x4 x5 μ) := by
  unfold f_X8_falsifies_134_b h_X8_falsifies_134_b
  refine he_gs h (f := 821) (c := 8) (o := 0) ⟨rfl, by decide, by decide⟩ rfl (fun v1 => ?_)
  refine hx_if ?_ ?_
  · exact hx_map (eh_X8_falsifies_258 h) (fun r => rfl) (fun r q => q)
  · refine he_gr h (f := 800) (c := 8) (o := 0) ⟨by decide, by decide⟩ rfl ?_
    refine he_gA h (f := 215) (c := 2) (o := 0) ⟨rfl, by decide⟩ rfl ?_
    refine he_ga h (f := 215) (o := 0) ⟨⟨rfl, by decide, by decide⟩, rfl⟩ (fun v4 => ?_)
    exact (eh_X8_falsifies_155 h)
noncomputable def h_X8_falsifies_134 (x3 x4 x5 : Int) (μ : cM) : Option cO :=
  zloop (fun s : Int × Int × Int × cM => h_X8_falsifies_134_b s.1 s.2.1 s.2.2.1 s.2.2.2) (x3, x4, x5, μ)
theorem eh_X8_falsifies_134 {B : Nat} {τ : zM} {x3 x4 x5 : Int} {μ : cM} (h : cOK B τ μ.2) : hR (hf B) (hp B τ) (f_X8_falsifies_134 (cad B 8 0) x3 x4 x5 (cw B μ)) (h_X8_falsifies_134 x3 x4 x5 μ) := by
  unfold f_X8_falsifies_134 h_X8_falsifies_134
  refine hx_loop (φ := (fun s => (s.1, s.2.1, s.2.2.1, cw B s.2.2.2))) (Ps := (fun s : Int × Int × Int × cM => cOK B τ s.2.2.2.2)) (s := (x3, x4, x5, μ)) h (fun s hs => ?_)
  exact eh_X8_falsifies_134_b hs
noncomputable def h_X8_falsifies_123 (x2 x3 : Int) (μ : cM) : Option cO :=
  hwl (hS μ 821 0 x2) fun μ1 =>
  h_X8_falsifies_134 x3 0 0 μ1
theorem eh_X8_falsifies_123 {B : Nat} {τ : zM} {x2 x3 : Int} {μ : cM} (h : cOK B τ μ.2) : hR (hf B) (hp B τ) (f_X8_falsifies_123 (cad B 8 0) x2 x3 (cw B μ)) (h_X8_falsifies_123 x2 x3 μ) := by
  unfold f_X8_falsifies_123 h_X8_falsifies_123
  refine he_ps h (f := 821) (c := 8) (o := 0) ⟨rfl, by decide, by decide⟩ rfl (fun μ1 h => ?_)
  exact (eh_X8_falsifies_134 h)
noncomputable def h_X8_falsifies_117 (x1 x2 x3 x4 : Int) (μ : cM) : Option ((Int × Int × cM) ⊕ cO) :=
  zlet (zadd x4 1) fun y1 =>
  some (.inl (x3, y1, μ))
theorem eh_X8_falsifies_117 {B : Nat} {τ : zM} {x1 x2 x3 x4 : Int} {μ : cM} (h : cOK B τ μ.2) : hR (Sum.map (fun s => (s.1, s.2.1, cw B s.2.2)) (hf B)) (Sum.elim (fun s : Int × Int × cM => cOK B τ s.2.2.2) (hp B τ)) (f_X8_falsifies_117 (cad B 8 0) x1 x2 x3 x4 (cw B μ)) (h_X8_falsifies_117 x1 x2 x3 x4 μ) := by
  unfold f_X8_falsifies_117 h_X8_falsifies_117
  refine hx_let (fun y1 => ?_)
  first | exact hx_some rfl h | exact hx_some rfl trivial
noncomputable def h_X8_falsifies_73_b (x1 x2 x3 x4 : Int) (μ : cM) : Option ((Int × Int × cM) ⊕ cO) :=
  hci (h_X8_kinds μ) fun v1 μ2 =>
  if v1 ≤ x4 then
    (h_X8_falsifies_123 x2 x3 μ2).map (fun r => (.inr r))
  else
    (hga μ2 802 0 0).bind fun v4 =>
    hci ((if zis μ2.2 17 x1 = true then h_X16_is x1 v4 x4 μ2 else (if zis μ2.2 18 x1 = true then h_G_X17_is 40 0 [x1, v4, x4] μ2 else (if zis μ2.2 20 x1 = true then h_G_X17_is 40 1 [x1, v4, x4] μ2 else (if zis μ2.2 19 x1 = true then h_X18_is x1 v4 x4 μ2 else none))))) fun v5 μ6 =>
    if v5 ≠ 0 then
      h_X8_falsifies_117 x1 x2 x3 x4 μ6
    else
      (hga μ6 815 0 x4).bind fun v8 =>
      if v8 ≠ x2 then
        h_X8_falsifies_117 x1 x2 x3 x4 μ6
      else
        zlet ((zor x3 (zshl 1 x4))) fun y9 =>
        h_X8_falsifies_117 x1 x2 y9 x4 μ6
theorem eh_X8_falsifies_73_b {B : Nat} {τ : zM} {x1 x2 x3 x4 : Int} {μ : cM} (h : cOK B τ μ.2) : hR (Sum.map (fun s => (s.1, s.2.1, cw B s.2.2)) (hf B)) (Sum.elim (fun s : Int × Int × cM => cOK B τ s.2.2.2) (hp B τ)) (f_X8_falsifies_73_b (cad B 8 0) x1 x2 x3 x4 (cw B μ)) (h_X8_falsifies_73_b x1 x2 x3 x4 μ) := by
  unfold f_X8_falsifies_73_b h_X8_falsifies_73_b
  refine hx_is h ⟨rfl, by decide, by decide⟩ ?_
  refine hx_ci (eh_X8_kinds h) (fun v1 μ2 h => ?_)
  refine hx_if ?_ ?_
  · exact hx_map (eh_X8_falsifies_123 h) (fun r => rfl) (fun r q => q)
  · refine he_gA h (f := 802) (c := 8) (o := 0) ⟨rfl, by decide⟩ rfl ?_
    refine he_ga h (f := 802) (o := 0) ⟨⟨rfl, by decide, by decide⟩, rfl⟩ (fun v4 => ?_)
    refine hx_ci (hx_if (eh_X16_is h) (hx_if ((eh_G_X17_is B τ 40).1 h) (hx_if ((eh_G_X17_is B τ 40).2.1 h) (hx_if (eh_X18_is h) (hR_none _ _))))) (fun v5 μ6 h => ?_)
    refine hx_if ?_ ?_
    · exact (eh_X8_falsifies_117 h)
    · refine he_gA h (f := 815) (c := 8) (o := 0) ⟨rfl, by decide⟩ rfl ?_
      refine he_ga h (f := 815) (o := 0) ⟨⟨rfl, by decide, by decide⟩, rfl⟩ (fun v8 => ?_)
      refine hx_if ?_ ?_
      · exact (eh_X8_falsifies_117 h)
      · refine hx_let (fun y9 => ?_)
        exact (eh_X8_falsifies_117 h)
noncomputable def h_X8_falsifies_73 (x1 x2 x3 x4 : Int) (μ : cM) : Option cO :=
  zloop (fun s : Int × Int × cM => h_X8_falsifies_73_b x1 x2 s.1 s.2.1 s.2.2) (x3, x4, μ)
theorem eh_X8_falsifies_73 {B : Nat} {τ : zM} {x1 x2 x3 x4 : Int} {μ : cM} (h : cOK B τ μ.2) : hR (hf B) (hp B τ) (f_X8_falsifies_73 (cad B 8 0) x1 x2 x3 x4 (cw B μ)) (h_X8_falsifies_73 x1 x2 x3 x4 μ) := by
  unfold f_X8_falsifies_73 h_X8_falsifies_73
  refine hx_loop (φ := (fun s => (s.1, s.2.1, cw B s.2.2))) (Ps := (fun s : Int × Int × cM => cOK B τ s.2.2.2)) (s := (x3, x4, μ)) h (fun s hs => ?_)
  exact eh_X8_falsifies_73_b hs
noncomputable def h_X8_falsifies_59 (x1 x2 : Int) (μ : cM) : Option cO :=
  if x2 ≠ 30000 then
    h_X8_falsifies_73 x1 x2 0 0 μ
  else
    zgd (z01 0) <|
    some (0, zi 0, μ)
theorem eh_X8_falsifies_59 {B : Nat} {τ : zM} {x1 x2 : Int} {μ : cM} (h : cOK B τ μ.2) : hR (hf B) (hp B τ) (f_X8_falsifies_59 (cad B 8 0) x1 x2 (cw B μ)) (h_X8_falsifies_59 x1 x2 μ) := by
  unfold f_X8_falsifies_59 h_X8_falsifies_59
  refine hx_if ?_ ?_
  · exact (eh_X8_falsifies_73 h)
  · refine hx_gd ?_
    first | exact hx_some rfl h | exact hx_some rfl trivial
noncomputable def h_X8_falsifies_53 (x1 x2 x3 : Int) (μ : cM) : Option ((Int × Int × cM) ⊕ cO) :=
  zlet (zadd x3 1) fun y1 =>
  some (.inl (x2, y1, μ))
theorem eh_X8_falsifies_53 {B : Nat} {τ : zM} {x1 x2 x3 : Int} {μ : cM} (h : cOK B τ μ.2) : hR (Sum.map (fun s => (s.1, s.2.1, cw B s.2.2)) (hf B)) (Sum.elim (fun s : Int × Int × cM => cOK B τ s.2.2.2) (hp B τ)) (f_X8_falsifies_53 (cad B 8 0) x1 x2 x3 (cw B μ)) (h_X8_falsifies_53 x1 x2 x3 μ) := by
  unfold f_X8_falsifies_53 h_X8_falsifies_53
  refine hx_let (fun y1 => ?_)
  first | exact hx_some rfl h | exact hx_some rfl trivial
noncomputable def h_X8_falsifies_18_b (x1 x2 x3 : Int) (μ : cM) : Option ((Int × Int × cM) ⊕ cO) :=
  hci (h_X8_kinds μ) fun v1 μ2 =>
  if v1 ≤ x3 then
    (h_X8_falsifies_59 x1 x2 μ2).map (fun r => (.inr r))
  else
    (hga μ2 802 0 0).bind fun v4 =>
    hci ((if zis μ2.2 17 x1 = true then h_X16_is x1 v4 x3 μ2 else (if zis μ2.2 18 x1 = true then h_G_X17_is 40 0 [x1, v4, x3] μ2 else (if zis μ2.2 20 x1 = true then h_G_X17_is 40 1 [x1, v4, x3] μ2 else (if zis μ2.2 19 x1 = true then h_X18_is x1 v4 x3 μ2 else none))))) fun v5 μ6 =>
    if v5 ≠ 0 then
      h_X8_falsifies_53 x1 x2 x3 μ6
    else
      (hga μ6 815 0 x3).bind fun v8 =>
      zlet (if v8 < x2 then v8 else x2) fun y9 =>
      h_X8_falsifies_53 x1 y9 x3 μ6
theorem eh_X8_falsifies_18_b {B : Nat} {τ : zM} {x1 x2 x3 : Int} {μ : cM} (h : cOK B τ μ.2) : hR (Sum.map (fun s => (s.1, s.2.1, cw B s.2.2)) (hf B)) (Sum.elim (fun s : Int × Int × cM => cOK B τ s.2.2.2) (hp B τ)) (f_X8_falsifies_18_b (cad B 8 0) x1 x2 x3 (cw B μ)) (h_X8_falsifies_18_b x1 x2 x3 μ) := by
  unfold f_X8_falsifies_18_b h_X8_falsifies_18_b
  refine hx_is h ⟨rfl, by decide, by decide⟩ ?_
  refine hx_ci (eh_X8_kinds h) (fun v1 μ2 h => ?_)
  refine hx_if ?_ ?_
  · exact hx_map (eh_X8_falsifies_59 h) (fun r => rfl) (fun r q => q)
  · refine he_gA h (f := 802) (c := 8) (o := 0) ⟨rfl, by decide⟩ rfl ?_
    refine he_ga h (f := 802) (o := 0) ⟨⟨rfl, by decide, by decide⟩, rfl⟩ (fun v4 => ?_)
    refine hx_ci (hx_if (eh_X16_is h) (hx_if ((eh_G_X17_is B τ 40).1 h) (hx_if ((eh_G_X17_is B τ 40).2.1 h) (hx_if (eh_X18_is h) (hR_none _ _))))) (fun v5 μ6 h => ?_)
    refine hx_if ?_ ?_
    · exact (eh_X8_falsifies_53 h)
    · refine he_gA h (f := 815) (c := 8) (o := 0) ⟨rfl, by decide⟩ rfl ?_
      refine he_ga h (f := 815) (o := 0) ⟨⟨rfl, by decide, by decide⟩, rfl⟩ (fun v8 => ?_)
      refine hx_let (fun y9 => ?_)
      exact (eh_X8_falsifies_53 h)
noncomputable def h_X8_falsifies_18 (x1 x2 x3 : Int) (μ : cM) : Option cO :=
  zloop (fun s : Int × Int × cM => h_X8_falsifies_18_b x1 s.1 s.2.1 s.2.2) (x2, x3, μ)
theorem eh_X8_falsifies_18 {B : Nat} {τ : zM} {x1 x2 x3 : Int} {μ : cM} (h : cOK B τ μ.2) : hR (hf B) (hp B τ) (f_X8_falsifies_18 (cad B 8 0) x1 x2 x3 (cw B μ)) (h_X8_falsifies_18 x1 x2 x3 μ) := by
  unfold f_X8_falsifies_18 h_X8_falsifies_18
  refine hx_loop (φ := (fun s => (s.1, s.2.1, cw B s.2.2))) (Ps := (fun s : Int × Int × cM => cOK B τ s.2.2.2)) (s := (x2, x3, μ)) h (fun s hs => ?_)
  exact eh_X8_falsifies_18_b hs
noncomputable def h_X8_falsifies (x1 : Int) (μ : cM) : Option cO :=
  hcv (h_X8_prepare μ) fun μ1 =>
  hcv (h_X8_mark μ1) fun μ2 =>
  hcv (h_X8_spread μ2) fun μ3 =>
  h_X8_falsifies_18 x1 30000 0 μ3
theorem eh_X8_falsifies {B : Nat} {τ : zM} {x1 : Int} {μ : cM} (h : cOK B τ μ.2) : hR (hf B) (hp B τ) (f_X8_falsifies (cad B 8 0) x1 (cw B μ)) (h_X8_falsifies x1 μ) := by
  unfold f_X8_falsifies h_X8_falsifies
  refine hx_is h ⟨rfl, by decide, by decide⟩ ?_
  refine hx_cv (eh_X8_prepare h) (fun μ1 h => ?_)
  refine hx_is h ⟨rfl, by decide, by decide⟩ ?_
  refine hx_cv (eh_X8_mark h) (fun μ2 h => ?_)
  refine hx_is h ⟨rfl, by decide, by decide⟩ ?_
  refine hx_cv (eh_X8_spread h) (fun μ3 h => ?_)
  exact (eh_X8_falsifies_18 h)
noncomputable def h_X1_verify_42 (t0 : Int) (μ : cM) : Option cO :=
  zgd (z01 t0) <|
  some (0, zi t0, μ)
theorem eh_X1_verify_42 {B : Nat} {τ : zM} {t0 : Int} {μ : cM} (h : cOK B τ μ.2) : hR (hf B) (hp B τ) (f_X1_verify_42 t0 (cw B μ)) (h_X1_verify_42 t0 μ) := by
  unfold f_X1_verify_42 h_X1_verify_42
  refine hx_gd ?_
  first | exact hx_some rfl h | exact hx_some rfl trivial
noncomputable def h_X1_verify_12 (t0 : Int) (μ : cM) : Option cO :=
  hcvT (h_X1_need t0 μ) (fun n a μ1 => some (n + 1, zr a, μ1)) fun μ1 =>
  zlet (hG μ1 105 0) fun v3 =>
  hci (h_X8_falsifies v3 μ1) fun v4 μ5 =>
  zgd (z01 v4) <|
  hwl (hS μ5 107 0 v4) fun μ6 =>
  zlet (hG μ6 107 0) fun v7 =>
  if v7 ≠ 0 then
    h_X1_verify_42 0 μ6
  else
    h_X1_verify_42 1 μ6
theorem eh_X1_verify_12 {B : Nat} {τ : zM} {t0 : Int} {μ : cM} (h : cOK B τ μ.2) : hR (hf B) (hp B τ) (f_X1_verify_12 (cad B 1 0) t0 (cw B μ)) (h_X1_verify_12 t0 μ) := by
  unfold f_X1_verify_12 h_X1_verify_12
  refine hx_cvT (eh_X1_need h) (fun n a μ1 h => hx_some rfl h) (fun μ1 h => ?_)
  refine he_gr h (f := 104) (c := 1) (o := 0) ⟨by decide, by decide⟩ rfl ?_
  refine he_gs h (f := 105) (c := 1) (o := 0) ⟨rfl, by decide, by decide⟩ rfl (fun v3 => ?_)
  refine hx_is h ⟨rfl, by decide, by decide⟩ ?_
  refine hx_ci (eh_X8_falsifies h) (fun v4 μ5 h => ?_)
  refine hx_gd ?_
  refine he_ps h (f := 107) (c := 1) (o := 0) ⟨rfl, by decide, by decide⟩ rfl (fun μ6 h => ?_)
  refine he_gs h (f := 107) (c := 1) (o := 0) ⟨rfl, by decide, by decide⟩ rfl (fun v7 => ?_)
  refine hx_if ?_ ?_
  · exact (eh_X1_verify_42 h)
  · exact (eh_X1_verify_42 h)
noncomputable def h_X1_verify (μ : cM) : Option cO :=
  zlet (hG μ 105 0) fun v1 =>
  if v1 = (-1) then
    h_X1_verify_12 0 μ
  else
    h_X1_verify_12 1 μ
theorem eh_X1_verify {B : Nat} {τ : zM} {μ : cM} (h : cOK B τ μ.2) : hR (hf B) (hp B τ) (f_X1_verify (cad B 1 0) (cw B μ)) (h_X1_verify  μ) := by
  unfold f_X1_verify h_X1_verify
  refine he_gs h (f := 105) (c := 1) (o := 0) ⟨rfl, by decide, by decide⟩ rfl (fun v1 => ?_)
  refine hx_if ?_ ?_
  · exact (eh_X1_verify_12 h)
  · exact (eh_X1_verify_12 h)
noncomputable def h_X1_within_9 (μ : cM) : Option cO :=
  (hup μ (znX μ.2 54)).bind fun μ1 =>
  zgd (zis μ1.2 54 (↑(zN μ.2) : Int)) <|
  some (4, zr (↑(zN μ.2) : Int), μ1)
theorem eh_X1_within_9 {B : Nat} {τ : zM} {μ : cM} (h : cOK B τ μ.2) : hR (hf B) (hp B τ) (f_X1_within_9  (cw B μ)) (h_X1_within_9  μ) := by
  unfold f_X1_within_9 h_X1_within_9
  refine he_nX h (fun μ1 h => ?_)
  refine hx_gd ?_
  first | exact hx_some rfl h | exact hx_some rfl trivial
noncomputable def h_X1_within (x0 x1 : Int) (μ : cM) : Option cO :=
  if x0 < 0 then
    h_X1_within_9 μ
  else
    if x0 < x1 then
      some (0, ((3, 0) : zV), μ)
    else
      h_X1_within_9 μ
theorem eh_X1_within {B : Nat} {τ : zM} {x0 x1 : Int} {μ : cM} (h : cOK B τ μ.2) : hR (hf B) (hp B τ) (f_X1_within x0 x1 (cw B μ)) (h_X1_within x0 x1 μ) := by
  unfold f_X1_within h_X1_within
  refine hx_if ?_ ?_
  · exact (eh_X1_within_9 h)
  · refine hx_if ?_ ?_
    · first | exact hx_some rfl h | exact hx_some rfl trivial
    · exact (eh_X1_within_9 h)
noncomputable def h_X1_chosen_40 (t0 : Int) (μ : cM) : Option cO :=
  some (0, zi t0, μ)
theorem eh_X1_chosen_40 {B : Nat} {τ : zM} {t0 : Int} {μ : cM} (h : cOK B τ μ.2) : hR (hf B) (hp B τ) (f_X1_chosen_40 t0 (cw B μ)) (h_X1_chosen_40 t0 μ) := by
  unfold f_X1_chosen_40 h_X1_chosen_40
  first | exact hx_some rfl h | exact hx_some rfl trivial
noncomputable def h_X1_chosen (x1 : Int) (μ : cM) : Option cO :=
  zlet (hG μ 821 0) fun v2 =>
  if v2 ≤ x1 then
    zlet (hG μ 821 0) fun v6 =>
    (hga μ 819 0 (zsub x1 v6)).bind fun v7 =>
    h_X1_chosen_40 v7 μ
  else
    (hga μ 818 0 x1).bind fun v10 =>
    h_X1_chosen_40 v10 μ
theorem eh_X1_chosen {B : Nat} {τ : zM} {x1 : Int} {μ : cM} (h : cOK B τ μ.2) : hR (hf B) (hp B τ) (f_X1_chosen (cad B 1 0) x1 (cw B μ)) (h_X1_chosen x1 μ) := by
  unfold f_X1_chosen h_X1_chosen
  refine he_gr h (f := 104) (c := 1) (o := 0) ⟨by decide, by decide⟩ rfl ?_
  refine he_gs h (f := 821) (c := 8) (o := 0) ⟨rfl, by decide, by decide⟩ rfl (fun v2 => ?_)
  refine hx_if ?_ ?_
  · refine he_gr h (f := 104) (c := 1) (o := 0) ⟨by decide, by decide⟩ rfl ?_
    refine he_gA h (f := 819) (c := 8) (o := 0) ⟨rfl, by decide⟩ rfl ?_
    refine he_gr h (f := 104) (c := 1) (o := 0) ⟨by decide, by decide⟩ rfl ?_
    refine he_gs h (f := 821) (c := 8) (o := 0) ⟨rfl, by decide, by decide⟩ rfl (fun v6 => ?_)
    refine he_ga h (f := 819) (o := 0) ⟨⟨rfl, by decide, by decide⟩, rfl⟩ (fun v7 => ?_)
    exact (eh_X1_chosen_40 h)
  · refine he_gr h (f := 104) (c := 1) (o := 0) ⟨by decide, by decide⟩ rfl ?_
    refine he_gA h (f := 818) (c := 8) (o := 0) ⟨rfl, by decide⟩ rfl ?_
    refine he_ga h (f := 818) (o := 0) ⟨⟨rfl, by decide, by decide⟩, rfl⟩ (fun v10 => ?_)
    exact (eh_X1_chosen_40 h)
noncomputable def h_X1_lasso_134 (t0 : Int) (μ : cM) : Option cO :=
  some (0, zi t0, μ)
theorem eh_X1_lasso_134 {B : Nat} {τ : zM} {t0 : Int} {μ : cM} (h : cOK B τ μ.2) : hR (hf B) (hp B τ) (f_X1_lasso_134 t0 (cw B μ)) (h_X1_lasso_134 t0 μ) := by
  unfold f_X1_lasso_134 h_X1_lasso_134
  first | exact hx_some rfl h | exact hx_some rfl trivial
noncomputable def h_X1_lasso_77 (x1 x2 x3 : Int) (μ : cM) : Option cO :=
  (hga μ 215 0 x3).bind fun v3 =>
  hci (h_X1_chosen x1 μ) fun v4 μ5 =>
  zlet ((zadd v3 v4)) fun y6 =>
  if x2 ≠ 0 then
    if x2 ≠ 1 then
      (hga μ5 219 0 y6).bind fun v9 =>
      h_X1_lasso_134 v9 μ5
    else
      (hga μ5 218 0 y6).bind fun v12 =>
      h_X1_lasso_134 v12 μ5
  else
    hci (h_X1_chosen x1 μ5) fun v13 μ14 =>
    h_X1_lasso_134 v13 μ14
theorem eh_X1_lasso_77 {B : Nat} {τ : zM} {x1 x2 x3 : Int} {μ : cM} (h : cOK B τ μ.2) : hR (hf B) (hp B τ) (f_X1_lasso_77 (cad B 1 0) x1 x2 x3 (cw B μ)) (h_X1_lasso_77 x1 x2 x3 μ) := by
  unfold f_X1_lasso_77 h_X1_lasso_77
  refine he_gr h (f := 101) (c := 1) (o := 0) ⟨by decide, by decide⟩ rfl ?_
  refine he_gA h (f := 215) (c := 2) (o := 0) ⟨rfl, by decide⟩ rfl ?_
  refine he_ga h (f := 215) (o := 0) ⟨⟨rfl, by decide, by decide⟩, rfl⟩ (fun v3 => ?_)
  refine hx_is h ⟨rfl, by decide, by decide⟩ ?_
  refine hx_ci (eh_X1_chosen h) (fun v4 μ5 h => ?_)
  refine hx_let (fun y6 => ?_)
  refine hx_if ?_ ?_
  · refine hx_if ?_ ?_
    · refine he_gr h (f := 101) (c := 1) (o := 0) ⟨by decide, by decide⟩ rfl ?_
      refine he_gA h (f := 219) (c := 2) (o := 0) ⟨rfl, by decide⟩ rfl ?_
      refine he_ga h (f := 219) (o := 0) ⟨⟨rfl, by decide, by decide⟩, rfl⟩ (fun v9 => ?_)
      exact (eh_X1_lasso_134 h)
    · refine he_gr h (f := 101) (c := 1) (o := 0) ⟨by decide, by decide⟩ rfl ?_
      refine he_gA h (f := 218) (c := 2) (o := 0) ⟨rfl, by decide⟩ rfl ?_
      refine he_ga h (f := 218) (o := 0) ⟨⟨rfl, by decide, by decide⟩, rfl⟩ (fun v12 => ?_)
      exact (eh_X1_lasso_134 h)
  · refine hx_is h ⟨rfl, by decide, by decide⟩ ?_
    refine hx_ci (eh_X1_chosen h) (fun v13 μ14 h => ?_)
    exact (eh_X1_lasso_134 h)
noncomputable def h_X1_lasso_40_b (x1 x2 x3 x4 : Int) (μ : cM) : Option ((Int × Int × cM) ⊕ cO) :=
  if x1 ≤ x4 then
    (h_X1_lasso_77 x1 x2 x3 μ).map (fun r => (.inr r))
  else
    (hga μ 215 0 x3).bind fun v5 =>
    hci (h_X1_chosen x4 μ) fun v6 μ7 =>
    (hga μ7 217 0 (zadd v5 v6)).bind fun v8 =>
    zlet (zadd x4 1) fun y9 =>
    some (.inl (v8, y9, μ7))
theorem eh_X1_lasso_40_b {B : Nat} {τ : zM} {x1 x2 x3 x4 : Int} {μ : cM} (h : cOK B τ μ.2) : hR (Sum.map (fun s => (s.1, s.2.1, cw B s.2.2)) (hf B)) (Sum.elim (fun s : Int × Int × cM => cOK B τ s.2.2.2) (hp B τ)) (f_X1_lasso_40_b (cad B 1 0) x1 x2 x3 x4 (cw B μ)) (h_X1_lasso_40_b x1 x2 x3 x4 μ) := by
  unfold f_X1_lasso_40_b h_X1_lasso_40_b
  refine hx_if ?_ ?_
  · exact hx_map (eh_X1_lasso_77 h) (fun r => rfl) (fun r q => q)
  · refine he_gr h (f := 101) (c := 1) (o := 0) ⟨by decide, by decide⟩ rfl ?_
    refine he_gA h (f := 217) (c := 2) (o := 0) ⟨rfl, by decide⟩ rfl ?_
    refine he_gr h (f := 101) (c := 1) (o := 0) ⟨by decide, by decide⟩ rfl ?_
    refine he_gA h (f := 215) (c := 2) (o := 0) ⟨rfl, by decide⟩ rfl ?_
    refine he_ga h (f := 215) (o := 0) ⟨⟨rfl, by decide, by decide⟩, rfl⟩ (fun v5 => ?_)
    refine hx_is h ⟨rfl, by decide, by decide⟩ ?_
    refine hx_ci (eh_X1_chosen h) (fun v6 μ7 h => ?_)
    refine he_ga h (f := 217) (o := 0) ⟨⟨rfl, by decide, by decide⟩, rfl⟩ (fun v8 => ?_)
    refine hx_let (fun y9 => ?_)
    first | exact hx_some rfl h | exact hx_some rfl trivial
noncomputable def h_X1_lasso_40 (x1 x2 x3 x4 : Int) (μ : cM) : Option cO :=
  zloop (fun s : Int × Int × cM => h_X1_lasso_40_b x1 x2 s.1 s.2.1 s.2.2) (x3, x4, μ)
theorem eh_X1_lasso_40 {B : Nat} {τ : zM} {x1 x2 x3 x4 : Int} {μ : cM} (h : cOK B τ μ.2) : hR (hf B) (hp B τ) (f_X1_lasso_40 (cad B 1 0) x1 x2 x3 x4 (cw B μ)) (h_X1_lasso_40 x1 x2 x3 x4 μ) := by
  unfold f_X1_lasso_40 h_X1_lasso_40
  refine hx_loop (φ := (fun s => (s.1, s.2.1, cw B s.2.2))) (Ps := (fun s : Int × Int × cM => cOK B τ s.2.2.2)) (s := (x3, x4, μ)) h (fun s hs => ?_)
  exact eh_X1_lasso_40_b hs
noncomputable def h_X1_lasso_27 (x1 x2 t0 t1 : Int) (μ : cM) : Option cO :=
  hcvT (h_X1_within t1 t0 μ) (fun n a μ1 => some (n + 1, zr a, μ1)) fun μ1 =>
  hcvT (h_X1_within x2 3 μ1) (fun n a μ2 => some (n + 1, zr a, μ2)) fun μ2 =>
  h_X1_lasso_40 x1 x2 0 0 μ2
theorem eh_X1_lasso_27 {B : Nat} {τ : zM} {x1 x2 t0 t1 : Int} {μ : cM} (h : cOK B τ μ.2) : hR (hf B) (hp B τ) (f_X1_lasso_27 (cad B 1 0) x1 x2 t0 t1 (cw B μ)) (h_X1_lasso_27 x1 x2 t0 t1 μ) := by
  unfold f_X1_lasso_27 h_X1_lasso_27
  refine hx_cvT (eh_X1_within h) (fun n a μ1 h => hx_some rfl h) (fun μ1 h => ?_)
  refine hx_cvT (eh_X1_within h) (fun n a μ2 h => hx_some rfl h) (fun μ2 h => ?_)
  exact (eh_X1_lasso_40 h)
noncomputable def h_X1_lasso (x1 x2 : Int) (μ : cM) : Option cO :=
  zlet (hG μ 107 0) fun v1 =>
  if v1 = 0 then
    h_X1_lasso_27 x1 x2 0 x1 μ
  else
    zlet (hG μ 821 0) fun v3 =>
    zlet (hG μ 822 0) fun v5 =>
    h_X1_lasso_27 x1 x2 (zadd v3 v5) x1 μ
theorem eh_X1_lasso {B : Nat} {τ : zM} {x1 x2 : Int} {μ : cM} (h : cOK B τ μ.2) : hR (hf B) (hp B τ) (f_X1_lasso (cad B 1 0) x1 x2 (cw B μ)) (h_X1_lasso x1 x2 μ) := by
  unfold f_X1_lasso h_X1_lasso
  refine he_gs h (f := 107) (c := 1) (o := 0) ⟨rfl, by decide, by decide⟩ rfl (fun v1 => ?_)
  refine hx_if ?_ ?_
  · exact (eh_X1_lasso_27 h)
  · refine he_gr h (f := 104) (c := 1) (o := 0) ⟨by decide, by decide⟩ rfl ?_
    refine he_gs h (f := 821) (c := 8) (o := 0) ⟨rfl, by decide, by decide⟩ rfl (fun v3 => ?_)
    refine he_gr h (f := 104) (c := 1) (o := 0) ⟨by decide, by decide⟩ rfl ?_
    refine he_gs h (f := 822) (c := 8) (o := 0) ⟨rfl, by decide, by decide⟩ rfl (fun v5 => ?_)
    exact (eh_X1_lasso_27 h)
noncomputable def h_X1_walk (μ : cM) : Option cO :=
  zlet (hG μ 106 0) fun v1 =>
  hcvT (h_X1_need v1 μ) (fun n a μ2 => some (n + 1, zr a, μ2)) fun μ2 =>
  hwl (hS μ2 110 0 0) fun μ3 =>
  (hpa μ3 109 0 0 0).bind fun μ5 =>
  some (0, ((3, 0) : zV), μ5)
theorem eh_X1_walk {B : Nat} {τ : zM} {μ : cM} (h : cOK B τ μ.2) : hR (hf B) (hp B τ) (f_X1_walk (cad B 1 0) (cw B μ)) (h_X1_walk  μ) := by
  unfold f_X1_walk h_X1_walk
  refine he_gs h (f := 106) (c := 1) (o := 0) ⟨rfl, by decide, by decide⟩ rfl (fun v1 => ?_)
  refine hx_cvT (eh_X1_need h) (fun n a μ2 h => hx_some rfl h) (fun μ2 h => ?_)
  refine he_ps h (f := 110) (c := 1) (o := 0) ⟨rfl, by decide, by decide⟩ rfl (fun μ3 h => ?_)
  refine he_gA h (f := 109) (c := 1) (o := 0) ⟨rfl, by decide⟩ rfl ?_
  refine he_pa h (f := 109) (o := 0) ⟨⟨rfl, by decide, by decide⟩, rfl⟩ (fun μ5 h => ?_)
  first | exact hx_some rfl h | exact hx_some rfl trivial
noncomputable def h_X1_steps_27 (t0 : Int) (μ : cM) : Option cO :=
  some (0, zi t0, μ)
theorem eh_X1_steps_27 {B : Nat} {τ : zM} {t0 : Int} {μ : cM} (h : cOK B τ μ.2) : hR (hf B) (hp B τ) (f_X1_steps_27 t0 (cw B μ)) (h_X1_steps_27 t0 μ) := by
  unfold f_X1_steps_27 h_X1_steps_27
  first | exact hx_some rfl h | exact hx_some rfl trivial
noncomputable def h_X1_steps (μ : cM) : Option cO :=
  zlet (hG μ 110 0) fun v1 =>
  if 0 ≤ v1 then
    zlet (hG μ 110 0) fun v4 =>
    (hga μ 109 0 v4).bind fun v5 =>
    hci (h_X2_stepsOf v5 μ) fun v6 μ7 =>
    h_X1_steps_27 v6 μ7
  else
    h_X1_steps_27 0 μ
theorem eh_X1_steps {B : Nat} {τ : zM} {μ : cM} (h : cOK B τ μ.2) : hR (hf B) (hp B τ) (f_X1_steps (cad B 1 0) (cw B μ)) (h_X1_steps  μ) := by
  unfold f_X1_steps h_X1_steps
  refine he_gs h (f := 110) (c := 1) (o := 0) ⟨rfl, by decide, by decide⟩ rfl (fun v1 => ?_)
  refine hx_if ?_ ?_
  · refine he_gr h (f := 101) (c := 1) (o := 0) ⟨by decide, by decide⟩ rfl ?_
    refine he_gA h (f := 109) (c := 1) (o := 0) ⟨rfl, by decide⟩ rfl ?_
    refine he_gs h (f := 110) (c := 1) (o := 0) ⟨rfl, by decide, by decide⟩ rfl (fun v4 => ?_)
    refine he_ga h (f := 109) (o := 0) ⟨⟨rfl, by decide, by decide⟩, rfl⟩ (fun v5 => ?_)
    refine hx_is h ⟨rfl, by decide, by decide⟩ ?_
    refine hx_ci (eh_X2_stepsOf h) (fun v6 μ7 h => ?_)
    exact (eh_X1_steps_27 h)
  · exact (eh_X1_steps_27 h)
noncomputable def h_X1_go_12 (x1 t0 : Int) (μ : cM) : Option cO :=
  hcvT (h_X1_need t0 μ) (fun n a μ1 => some (n + 1, zr a, μ1)) fun μ1 =>
  hci (h_X1_steps μ1) fun v2 μ3 =>
  hcvT (h_X1_within x1 v2 μ3) (fun n a μ4 => some (n + 1, zr a, μ4)) fun μ4 =>
  zlet (hG μ4 110 0) fun v5 =>
  if v5 ≠ 60 then
    zlet (hG μ4 110 0) fun v9 =>
    (hga μ4 109 0 v9).bind fun v10 =>
    (hga μ4 215 0 v10).bind fun v11 =>
    zlet ((zadd v11 x1)) fun y12 =>
    zlet (hG μ4 110 0) fun v13 =>
    hwl (hS μ4 110 0 (zadd v13 1)) fun μ14 =>
    zlet (hG μ14 110 0) fun v16 =>
    (hga μ14 217 0 y12).bind fun v19 =>
    (hpa μ14 109 0 v16 v19).bind fun μ20 =>
    (hga μ20 218 0 y12).bind fun v23 =>
    some (0, zi v23, μ20)
  else
    (hup μ4 (znX μ4.2 53)).bind fun μ24 =>
    zgd (zis μ24.2 53 (↑(zN μ4.2) : Int)) <|
    some (3, zr (↑(zN μ4.2) : Int), μ24)
theorem eh_X1_go_12 {B : Nat} {τ : zM} {x1 t0 : Int} {μ : cM} (h : cOK B τ μ.2) : hR (hf B) (hp B τ) (f_X1_go_12 (cad B 1 0) x1 t0 (cw B μ)) (h_X1_go_12 x1 t0 μ) := by
  unfold f_X1_go_12 h_X1_go_12
  refine hx_cvT (eh_X1_need h) (fun n a μ1 h => hx_some rfl h) (fun μ1 h => ?_)
  refine hx_is h ⟨rfl, by decide, by decide⟩ ?_
  refine hx_ci (eh_X1_steps h) (fun v2 μ3 h => ?_)
  refine hx_cvT (eh_X1_within h) (fun n a μ4 h => hx_some rfl h) (fun μ4 h => ?_)
  refine he_gs h (f := 110) (c := 1) (o := 0) ⟨rfl, by decide, by decide⟩ rfl (fun v5 => ?_)
  refine hx_if ?_ ?_
  · refine he_gr h (f := 101) (c := 1) (o := 0) ⟨by decide, by decide⟩ rfl ?_
    refine he_gA h (f := 215) (c := 2) (o := 0) ⟨rfl, by decide⟩ rfl ?_
    refine he_gA h (f := 109) (c := 1) (o := 0) ⟨rfl, by decide⟩ rfl ?_
    refine he_gs h (f := 110) (c := 1) (o := 0) ⟨rfl, by decide, by decide⟩ rfl (fun v9 => ?_)
    refine he_ga h (f := 109) (o := 0) ⟨⟨rfl, by decide, by decide⟩, rfl⟩ (fun v10 => ?_)
    refine he_ga h (f := 215) (o := 0) ⟨⟨rfl, by decide, by decide⟩, rfl⟩ (fun v11 => ?_)
    refine hx_let (fun y12 => ?_)
    refine he_gs h (f := 110) (c := 1) (o := 0) ⟨rfl, by decide, by decide⟩ rfl (fun v13 => ?_)
    refine he_ps h (f := 110) (c := 1) (o := 0) ⟨rfl, by decide, by decide⟩ rfl (fun μ14 h => ?_)
    refine he_gA h (f := 109) (c := 1) (o := 0) ⟨rfl, by decide⟩ rfl ?_
    refine he_gs h (f := 110) (c := 1) (o := 0) ⟨rfl, by decide, by decide⟩ rfl (fun v16 => ?_)
    refine he_gr h (f := 101) (c := 1) (o := 0) ⟨by decide, by decide⟩ rfl ?_
    refine he_gA h (f := 217) (c := 2) (o := 0) ⟨rfl, by decide⟩ rfl ?_
    refine he_ga h (f := 217) (o := 0) ⟨⟨rfl, by decide, by decide⟩, rfl⟩ (fun v19 => ?_)
    refine he_pa h (f := 109) (o := 0) ⟨⟨rfl, by decide, by decide⟩, rfl⟩ (fun μ20 h => ?_)
    refine he_gr h (f := 101) (c := 1) (o := 0) ⟨by decide, by decide⟩ rfl ?_
    refine he_gA h (f := 218) (c := 2) (o := 0) ⟨rfl, by decide⟩ rfl ?_
    refine he_ga h (f := 218) (o := 0) ⟨⟨rfl, by decide, by decide⟩, rfl⟩ (fun v23 => ?_)
    first | exact hx_some rfl h | exact hx_some rfl trivial
  · refine he_nX h (fun μ24 h => ?_)
    refine hx_gd ?_
    first | exact hx_some rfl h | exact hx_some rfl trivial
noncomputable def h_X1_go (x1 : Int) (μ : cM) : Option cO :=
  zlet (hG μ 110 0) fun v1 =>
  if v1 < 0 then
    h_X1_go_12 x1 0 μ
  else
    h_X1_go_12 x1 1 μ
theorem eh_X1_go {B : Nat} {τ : zM} {x1 : Int} {μ : cM} (h : cOK B τ μ.2) : hR (hf B) (hp B τ) (f_X1_go (cad B 1 0) x1 (cw B μ)) (h_X1_go x1 μ) := by
  unfold f_X1_go h_X1_go
  refine he_gs h (f := 110) (c := 1) (o := 0) ⟨rfl, by decide, by decide⟩ rfl (fun v1 => ?_)
  refine hx_if ?_ ?_
  · exact (eh_X1_go_12 h)
  · exact (eh_X1_go_12 h)
noncomputable def h_X18_sign (x0 : Int) (μ : cM) : Option cO :=
  (zgf μ.2 1800 x0).bind fun v1 =>
  zgd (zch v1) <|
  some (0, zi v1, μ)
theorem eh_X18_sign {B : Nat} {τ : zM} {x0 : Int} {μ : cM} (h : cOK B τ μ.2) : hR (hf B) (hp B τ) (f_X18_sign x0 (cw B μ)) (h_X18_sign x0 μ) := by
  unfold f_X18_sign h_X18_sign
  refine he_gd 1800 rfl (fun v1 => ?_)
  refine hx_gd ?_
  first | exact hx_some rfl h | exact hx_some rfl trivial
noncomputable def h_X18_number (x0 : Int) (μ : cM) : Option cO :=
  (zgf μ.2 1801 x0).bind fun v1 =>
  some (0, zi v1, μ)
theorem eh_X18_number {B : Nat} {τ : zM} {x0 : Int} {μ : cM} (h : cOK B τ μ.2) : hR (hf B) (hp B τ) (f_X18_number x0 (cw B μ)) (h_X18_number x0 μ) := by
  unfold f_X18_number h_X18_number
  refine he_gd 1801 rfl (fun v1 => ?_)
  first | exact hx_some rfl h | exact hx_some rfl trivial
noncomputable def h_J15_canEncode_12 (t0 : Int) (μ : cM) : Option cO :=
  zgd (z01 t0) <|
  some (0, zi t0, μ)
theorem eh_J15_canEncode_12 {B : Nat} {τ : zM} {t0 : Int} {μ : cM} (h : cOK B τ μ.2) : hR (hf B) (hp B τ) (f_J15_canEncode_12 t0 (cw B μ)) (h_J15_canEncode_12 t0 μ) := by
  unfold f_J15_canEncode_12 h_J15_canEncode_12
  refine hx_gd ?_
  first | exact hx_some rfl h | exact hx_some rfl trivial
noncomputable def h_J15_canEncode (x0 : Int) (μ : cM) : Option cO :=
  if 255 < x0 then
    h_J15_canEncode_12 0 μ
  else
    h_J15_canEncode_12 1 μ
theorem eh_J15_canEncode {B : Nat} {τ : zM} {x0 : Int} {μ : cM} (h : cOK B τ μ.2) : hR (hf B) (hp B τ) (f_J15_canEncode x0 (cw B μ)) (h_J15_canEncode x0 μ) := by
  unfold f_J15_canEncode h_J15_canEncode
  refine hx_if ?_ ?_
  · exact (eh_J15_canEncode_12 h)
  · exact (eh_J15_canEncode_12 h)
noncomputable def h_J0_append_3_56 (x0 x1 : Int) (μ : cM) : Option cO :=
  (zgf μ.2 2000 x0).bind fun v1 =>
  (zgf μ.2 2003 x0).bind fun v2 =>
  (hup μ (zpf μ.2 2003 x0 (zadd v2 1))).bind fun μ3 =>
  none
theorem eh_J0_append_3_56 {B : Nat} {τ : zM} {x0 x1 : Int} {μ : cM} (h : cOK B τ μ.2) : hR (hf B) (hp B τ) (f_J0_append_3_56 x0 x1 (cw B μ)) (h_J0_append_3_56 x0 x1 μ) := by
  unfold f_J0_append_3_56 h_J0_append_3_56
  refine he_gd 2000 rfl (fun v1 => ?_)
  refine he_gd 2003 rfl (fun v2 => ?_)
  refine he_pd h 2003 ⟨by decide, by decide⟩ rfl (fun μ3 h => ?_)
  exact hR_none _ _
noncomputable def h_J0_append_3_45 (x0 x1 : Int) (μ : cM) : Option cO :=
  zgd (zis μ.2 21 x0) <|
  hci (h_J0_isLatin1 x0 μ) fun v1 μ2 =>
  if v1 = 0 then
    h_J0_append_3_56 x0 x1 μ2
  else
    none
theorem eh_J0_append_3_45 {B : Nat} {τ : zM} {x0 x1 : Int} {μ : cM} (h : cOK B τ μ.2) : hR (hf B) (hp B τ) (f_J0_append_3_45 x0 x1 (cw B μ)) (h_J0_append_3_45 x0 x1 μ) := by
  unfold f_J0_append_3_45 h_J0_append_3_45
  refine hx_gd ?_
  refine hx_ci (eh_J0_isLatin1 h) (fun v1 μ2 h => ?_)
  refine hx_if ?_ ?_
  · exact (eh_J0_append_3_56 h)
  · exact hR_none _ _
noncomputable def h_J0_append_3_75 (x0 : Int) (μ : cM) : Option cO :=
  some (0, zr x0, μ)
theorem eh_J0_append_3_75 {B : Nat} {τ : zM} {x0 : Int} {μ : cM} (h : cOK B τ μ.2) : hR (hf B) (hp B τ) (f_J0_append_3_75 x0 (cw B μ)) (h_J0_append_3_75 x0 μ) := by
  unfold f_J0_append_3_75 h_J0_append_3_75
  first | exact hx_some rfl h | exact hx_some rfl trivial
noncomputable def h_J0_append_3 (x0 x1 : Int) (μ : cM) : Option cO :=
  (zgf μ.2 2003 x0).bind fun v1 =>
  zgd (zis μ.2 21 x0) <|
  hcv (h_J0_ensureCapacityInternal x0 (zadd v1 1) μ) fun μ2 =>
  zgd (zis μ2.2 21 x0) <|
  hci (h_J0_isLatin1 x0 μ2) fun v3 μ4 =>
  if v3 = 0 then
    h_J0_append_3_45 x0 x1 μ4
  else
    hci (h_J15_canEncode x1 μ4) fun v5 μ6 =>
    if v5 = 0 then
      h_J0_append_3_45 x0 x1 μ6
    else
      (zgf μ6.2 2000 x0).bind fun v7 =>
      (zgf μ6.2 2003 x0).bind fun v8 =>
      (hup μ6 (zpf μ6.2 2003 x0 (zadd v8 1))).bind fun μ9 =>
      zgd (zby (zi2b x1)) <|
      (hup μ9 (zpa μ9.2 104 v7 v8 (zi2b x1))).bind fun μ10 =>
      h_J0_append_3_75 x0 μ10
theorem eh_J0_append_3 {B : Nat} {τ : zM} {x0 x1 : Int} {μ : cM} (h : cOK B τ μ.2) : hR (hf B) (hp B τ) (f_J0_append_3 x0 x1 (cw B μ)) (h_J0_append_3 x0 x1 μ) := by
  unfold f_J0_append_3 h_J0_append_3
  refine he_gd 2003 rfl (fun v1 => ?_)
  refine hx_gd ?_
  refine hx_cv (eh_J0_ensureCapacityInternal h) (fun μ2 h => ?_)
  refine hx_gd ?_
  refine hx_ci (eh_J0_isLatin1 h) (fun v3 μ4 h => ?_)
  refine hx_if ?_ ?_
  · exact (eh_J0_append_3_45 h)
  · refine hx_ci (eh_J15_canEncode h) (fun v5 μ6 h => ?_)
    refine hx_if ?_ ?_
    · exact (eh_J0_append_3_45 h)
    · refine he_gd 2000 rfl (fun v7 => ?_)
      refine he_gd 2003 rfl (fun v8 => ?_)
      refine he_pd h 2003 ⟨by decide, by decide⟩ rfl (fun μ9 h => ?_)
      refine hx_gd ?_
      refine he_pad h (by decide) (fun μ10 h => ?_)
      exact (eh_J0_append_3_75 h)
noncomputable def h_J1_append_3 (x0 x1 : Int) (μ : cM) : Option cO :=
  zgd (zis μ.2 21 x0) <|
  hcr (h_J0_append_3 x0 x1 μ) fun v1 μ2 =>
  some (0, zr x0, μ2)
theorem eh_J1_append_3 {B : Nat} {τ : zM} {x0 x1 : Int} {μ : cM} (h : cOK B τ μ.2) : hR (hf B) (hp B τ) (f_J1_append_3 x0 x1 (cw B μ)) (h_J1_append_3 x0 x1 μ) := by
  unfold f_J1_append_3 h_J1_append_3
  refine hx_gd ?_
  refine hx_cr (eh_J0_append_3 h) (fun v1 μ2 h => ?_)
  first | exact hx_some rfl h | exact hx_some rfl trivial
noncomputable def h_X1_write_121 (μ : cM) : Option cO :=
  zgd (z01 1) <|
  some (0, zi 1, μ)
theorem eh_X1_write_121 {B : Nat} {τ : zM} {μ : cM} (h : cOK B τ μ.2) : hR (hf B) (hp B τ) (f_X1_write_121  (cw B μ)) (h_X1_write_121  μ) := by
  unfold f_X1_write_121 h_X1_write_121
  refine hx_gd ?_
  first | exact hx_some rfl h | exact hx_some rfl trivial
noncomputable def h_X1_write_115 (x1 x4 : Int) (μ : cM) : Option ((Int × cM) ⊕ cO) :=
  zlet (zadd x4 (-8)) fun y1 =>
  some (.inl (y1, μ))
theorem eh_X1_write_115 {B : Nat} {τ : zM} {x1 x4 : Int} {μ : cM} (h : cOK B τ μ.2) : hR (Sum.map (fun s => (s.1, cw B s.2)) (hf B)) (Sum.elim (fun s : Int × cM => cOK B τ s.2.2) (hp B τ)) (f_X1_write_115 (cad B 1 0) x1 x4 (cw B μ)) (h_X1_write_115 x1 x4 μ) := by
  unfold f_X1_write_115 h_X1_write_115
  refine hx_let (fun y1 => ?_)
  first | exact hx_some rfl h | exact hx_some rfl trivial
noncomputable def h_X1_write_83_b (x1 x4 : Int) (μ : cM) : Option ((Int × cM) ⊕ cO) :=
  if x4 < 0 then
    (h_X1_write_121 μ).map (fun r => (.inr r))
  else
    zlet ((zand (zl2i (jshr x1 x4)) 255)) fun y1 =>
    if y1 = 0 then
      h_X1_write_115 x1 x4 μ
    else
      zlet (hG μ 100 0) fun v2 =>
      zgd (zis μ.2 21 v2) <|
      hcr (h_J1_append_3 v2 (zi2c y1) μ) fun v3 μ4 =>
      h_X1_write_115 x1 x4 μ4
theorem eh_X1_write_83_b {B : Nat} {τ : zM} {x1 x4 : Int} {μ : cM} (h : cOK B τ μ.2) : hR (Sum.map (fun s => (s.1, cw B s.2)) (hf B)) (Sum.elim (fun s : Int × cM => cOK B τ s.2.2) (hp B τ)) (f_X1_write_83_b (cad B 1 0) x1 x4 (cw B μ)) (h_X1_write_83_b x1 x4 μ) := by
  unfold f_X1_write_83_b h_X1_write_83_b
  refine hx_if ?_ ?_
  · exact hx_map (eh_X1_write_121 h) (fun r => rfl) (fun r q => q)
  · refine hx_let (fun y1 => ?_)
    refine hx_if ?_ ?_
    · exact (eh_X1_write_115 h)
    · refine he_gs h (f := 100) (c := 1) (o := 0) ⟨rfl, by decide, by decide⟩ rfl (fun v2 => ?_)
      refine hx_gd ?_
      refine hx_cr (eh_J1_append_3 h) (fun v3 μ4 h => ?_)
      exact (eh_X1_write_115 h)
noncomputable def h_X1_write_83 (x1 x4 : Int) (μ : cM) : Option cO :=
  zloop (fun s : Int × cM => h_X1_write_83_b x1 s.1 s.2) (x4, μ)
theorem eh_X1_write_83 {B : Nat} {τ : zM} {x1 x4 : Int} {μ : cM} (h : cOK B τ μ.2) : hR (hf B) (hp B τ) (f_X1_write_83 (cad B 1 0) x1 x4 (cw B μ)) (h_X1_write_83 x1 x4 μ) := by
  unfold f_X1_write_83 h_X1_write_83
  refine hx_loop (φ := (fun s => (s.1, cw B s.2))) (Ps := (fun s : Int × cM => cOK B τ s.2.2)) (s := (x4, μ)) h (fun s hs => ?_)
  exact eh_X1_write_83_b hs
noncomputable def h_X1_write_62 (x1 x3 : Int) (μ : cM) : Option cO :=
  zlet (hG μ 100 0) fun v1 =>
  zgd (zis μ.2 21 v1) <|
  hci (h_J1_length v1 μ) fun v2 μ3 =>
  if (zadd v2 x3) ≤ 240 then
    h_X1_write_83 x1 56 μ3
  else
    zgd (z01 0) <|
    some (0, zi 0, μ3)
theorem eh_X1_write_62 {B : Nat} {τ : zM} {x1 x3 : Int} {μ : cM} (h : cOK B τ μ.2) : hR (hf B) (hp B τ) (f_X1_write_62 (cad B 1 0) x1 x3 (cw B μ)) (h_X1_write_62 x1 x3 μ) := by
  unfold f_X1_write_62 h_X1_write_62
  refine he_gs h (f := 100) (c := 1) (o := 0) ⟨rfl, by decide, by decide⟩ rfl (fun v1 => ?_)
  refine hx_gd ?_
  refine hx_ci (eh_J1_length h) (fun v2 μ3 h => ?_)
  refine hx_if ?_ ?_
  · exact (eh_X1_write_83 h)
  · refine hx_gd ?_
    first | exact hx_some rfl h | exact hx_some rfl trivial
noncomputable def h_X1_write_54 (x1 x4 t0 t1 : Int) (μ : cM) : Option ((Int × Int) ⊕ cO) :=
  zlet ((zadd t1 t0)) fun y1 =>
  zlet (zadd x4 (-8)) fun y2 =>
  some (.inl (y1, y2))
theorem eh_X1_write_54 {B : Nat} {τ : zM} {x1 x4 t0 t1 : Int} {μ : cM} (h : cOK B τ μ.2) : hR (Sum.map id (hf B)) (Sum.elim (fun _ : Int × Int => True) (hp B τ)) (f_X1_write_54 (cad B 1 0) x1 x4 t0 t1 (cw B μ)) (h_X1_write_54 x1 x4 t0 t1 μ) := by
  unfold f_X1_write_54 h_X1_write_54
  refine hx_let (fun y1 => ?_)
  refine hx_let (fun y2 => ?_)
  first | exact hx_some rfl h | exact hx_some rfl trivial
noncomputable def h_X1_write_43 (x1 x3 x4 x5 : Int) (μ : cM) : Option ((Int × Int) ⊕ cO) :=
  if x5 = 0 then
    h_X1_write_54 x1 x4 0 x3 μ
  else
    h_X1_write_54 x1 x4 1 x3 μ
theorem eh_X1_write_43 {B : Nat} {τ : zM} {x1 x3 x4 x5 : Int} {μ : cM} (h : cOK B τ μ.2) : hR (Sum.map id (hf B)) (Sum.elim (fun _ : Int × Int => True) (hp B τ)) (f_X1_write_43 (cad B 1 0) x1 x3 x4 x5 (cw B μ)) (h_X1_write_43 x1 x3 x4 x5 μ) := by
  unfold f_X1_write_43 h_X1_write_43
  refine hx_if ?_ ?_
  · exact (eh_X1_write_54 h)
  · exact (eh_X1_write_54 h)
noncomputable def h_X1_write_41 (μ : cM) : Option cO :=
  zgd (z01 0) <|
  some (0, zi 0, μ)
theorem eh_X1_write_41 {B : Nat} {τ : zM} {μ : cM} (h : cOK B τ μ.2) : hR (hf B) (hp B τ) (f_X1_write_41  (cw B μ)) (h_X1_write_41  μ) := by
  unfold f_X1_write_41 h_X1_write_41
  refine hx_gd ?_
  first | exact hx_some rfl h | exact hx_some rfl trivial
noncomputable def h_X1_write_6_b (x1 x3 x4 : Int) (μ : cM) : Option ((Int × Int) ⊕ cO) :=
  if x4 < 0 then
    (h_X1_write_62 x1 x3 μ).map (fun r => (.inr r))
  else
    zlet ((zand (zl2i (jshr x1 x4)) 255)) fun y1 =>
    if y1 = 0 then
      h_X1_write_43 x1 x3 x4 y1 μ
    else
      if y1 < 33 then
        (h_X1_write_41 μ).map (fun r => (.inr r))
      else
        if y1 ≤ 126 then
          h_X1_write_43 x1 x3 x4 y1 μ
        else
          (h_X1_write_41 μ).map (fun r => (.inr r))
theorem eh_X1_write_6_b {B : Nat} {τ : zM} {x1 x3 x4 : Int} {μ : cM} (h : cOK B τ μ.2) : hR (Sum.map id (hf B)) (Sum.elim (fun _ : Int × Int => True) (hp B τ)) (f_X1_write_6_b (cad B 1 0) x1 x3 x4 (cw B μ)) (h_X1_write_6_b x1 x3 x4 μ) := by
  unfold f_X1_write_6_b h_X1_write_6_b
  refine hx_if ?_ ?_
  · exact hx_map (eh_X1_write_62 h) (fun r => rfl) (fun r q => q)
  · refine hx_let (fun y1 => ?_)
    refine hx_if ?_ ?_
    · exact (eh_X1_write_43 h)
    · refine hx_if ?_ ?_
      · exact hx_map (eh_X1_write_41 h) (fun r => rfl) (fun r q => q)
      · refine hx_if ?_ ?_
        · exact (eh_X1_write_43 h)
        · exact hx_map (eh_X1_write_41 h) (fun r => rfl) (fun r q => q)
noncomputable def h_X1_write_6 (x1 x3 x4 : Int) (μ : cM) : Option cO :=
  zloop (fun s : Int × Int => h_X1_write_6_b x1 s.1 s.2 μ) (x3, x4)
theorem eh_X1_write_6 {B : Nat} {τ : zM} {x1 x3 x4 : Int} {μ : cM} (h : cOK B τ μ.2) : hR (hf B) (hp B τ) (f_X1_write_6 (cad B 1 0) x1 x3 x4 (cw B μ)) (h_X1_write_6 x1 x3 x4 μ) := by
  unfold f_X1_write_6 h_X1_write_6
  refine hx_loop (φ := id) (Ps := (fun _ : Int × Int => True)) (s := (x3, x4)) trivial (fun s hs => ?_)
  exact eh_X1_write_6_b h
noncomputable def h_X1_write (x1 : Int) (μ : cM) : Option cO :=
  h_X1_write_6 x1 0 56 μ
theorem eh_X1_write {B : Nat} {τ : zM} {x1 : Int} {μ : cM} (h : cOK B τ μ.2) : hR (hf B) (hp B τ) (f_X1_write (cad B 1 0) x1 (cw B μ)) (h_X1_write x1 μ) := by
  unfold f_X1_write h_X1_write
  exact (eh_X1_write_6 h)
noncomputable def h_X1_place (μ : cM) : Option cO :=
  zlet (hG μ 108 0) fun v1 =>
  some (0, zi v1, μ)
theorem eh_X1_place {B : Nat} {τ : zM} {μ : cM} (h : cOK B τ μ.2) : hR (hf B) (hp B τ) (f_X1_place (cad B 1 0) (cw B μ)) (h_X1_place  μ) := by
  unfold f_X1_place h_X1_place
  refine he_gs h (f := 108) (c := 1) (o := 0) ⟨rfl, by decide, by decide⟩ rfl (fun v1 => ?_)
  first | exact hx_some rfl h | exact hx_some rfl trivial
noncomputable def h_X1_stem_18 (t0 : Int) (μ : cM) : Option cO :=
  some (0, zi t0, μ)
theorem eh_X1_stem_18 {B : Nat} {τ : zM} {t0 : Int} {μ : cM} (h : cOK B τ μ.2) : hR (hf B) (hp B τ) (f_X1_stem_18 t0 (cw B μ)) (h_X1_stem_18 t0 μ) := by
  unfold f_X1_stem_18 h_X1_stem_18
  first | exact hx_some rfl h | exact hx_some rfl trivial
noncomputable def h_X1_stem (μ : cM) : Option cO :=
  zlet (hG μ 107 0) fun v1 =>
  if v1 = 0 then
    h_X1_stem_18 (-1) μ
  else
    zlet (hG μ 821 0) fun v3 =>
    h_X1_stem_18 v3 μ
theorem eh_X1_stem {B : Nat} {τ : zM} {μ : cM} (h : cOK B τ μ.2) : hR (hf B) (hp B τ) (f_X1_stem (cad B 1 0) (cw B μ)) (h_X1_stem  μ) := by
  unfold f_X1_stem h_X1_stem
  refine he_gs h (f := 107) (c := 1) (o := 0) ⟨rfl, by decide, by decide⟩ rfl (fun v1 => ?_)
  refine hx_if ?_ ?_
  · exact (eh_X1_stem_18 h)
  · refine he_gr h (f := 104) (c := 1) (o := 0) ⟨by decide, by decide⟩ rfl ?_
    refine he_gs h (f := 821) (c := 8) (o := 0) ⟨rfl, by decide, by decide⟩ rfl (fun v3 => ?_)
    exact (eh_X1_stem_18 h)
noncomputable def h_X1_cycle_18 (t0 : Int) (μ : cM) : Option cO :=
  some (0, zi t0, μ)
theorem eh_X1_cycle_18 {B : Nat} {τ : zM} {t0 : Int} {μ : cM} (h : cOK B τ μ.2) : hR (hf B) (hp B τ) (f_X1_cycle_18 t0 (cw B μ)) (h_X1_cycle_18 t0 μ) := by
  unfold f_X1_cycle_18 h_X1_cycle_18
  first | exact hx_some rfl h | exact hx_some rfl trivial
noncomputable def h_X1_cycle (μ : cM) : Option cO :=
  zlet (hG μ 107 0) fun v1 =>
  if v1 = 0 then
    h_X1_cycle_18 0 μ
  else
    zlet (hG μ 822 0) fun v3 =>
    h_X1_cycle_18 v3 μ
theorem eh_X1_cycle {B : Nat} {τ : zM} {μ : cM} (h : cOK B τ μ.2) : hR (hf B) (hp B τ) (f_X1_cycle (cad B 1 0) (cw B μ)) (h_X1_cycle  μ) := by
  unfold f_X1_cycle h_X1_cycle
  refine he_gs h (f := 107) (c := 1) (o := 0) ⟨rfl, by decide, by decide⟩ rfl (fun v1 => ?_)
  refine hx_if ?_ ?_
  · exact (eh_X1_cycle_18 h)
  · refine he_gr h (f := 104) (c := 1) (o := 0) ⟨by decide, by decide⟩ rfl ?_
    refine he_gs h (f := 822) (c := 8) (o := 0) ⟨rfl, by decide, by decide⟩ rfl (fun v3 => ?_)
    exact (eh_X1_cycle_18 h)
noncomputable def h_X1_look_39 (t0 : Int) (μ : cM) : Option cO :=
  zgd (z01 t0) <|
  some (0, zi t0, μ)
theorem eh_X1_look_39 {B : Nat} {τ : zM} {t0 : Int} {μ : cM} (h : cOK B τ μ.2) : hR (hf B) (hp B τ) (f_X1_look_39 t0 (cw B μ)) (h_X1_look_39 t0 μ) := by
  unfold f_X1_look_39 h_X1_look_39
  refine hx_gd ?_
  first | exact hx_some rfl h | exact hx_some rfl trivial
noncomputable def h_X1_look_27 (μ : cM) : Option cO :=
  zlet (hG μ 110 0) fun v1 =>
  if v1 < 0 then
    h_X1_look_39 0 μ
  else
    h_X1_look_39 1 μ
theorem eh_X1_look_27 {B : Nat} {τ : zM} {μ : cM} (h : cOK B τ μ.2) : hR (hf B) (hp B τ) (f_X1_look_27 (cad B 1 0) (cw B μ)) (h_X1_look_27  μ) := by
  unfold f_X1_look_27 h_X1_look_27
  refine he_gs h (f := 110) (c := 1) (o := 0) ⟨rfl, by decide, by decide⟩ rfl (fun v1 => ?_)
  refine hx_if ?_ ?_
  · exact (eh_X1_look_39 h)
  · exact (eh_X1_look_39 h)
noncomputable def h_X1_look (μ : cM) : Option cO :=
  zlet (hG μ 110 0) fun v1 =>
  if v1 < 0 then
    h_X1_look_27 μ
  else
    zlet (hG μ 110 0) fun v4 =>
    (hga μ 109 0 v4).bind fun v5 =>
    hcv (h_X2_unpack v5 2 μ) fun μ7 =>
    h_X1_look_27 μ7
theorem eh_X1_look {B : Nat} {τ : zM} {μ : cM} (h : cOK B τ μ.2) : hR (hf B) (hp B τ) (f_X1_look (cad B 1 0) (cw B μ)) (h_X1_look  μ) := by
  unfold f_X1_look h_X1_look
  refine he_gs h (f := 110) (c := 1) (o := 0) ⟨rfl, by decide, by decide⟩ rfl (fun v1 => ?_)
  refine hx_if ?_ ?_
  · exact (eh_X1_look_27 h)
  · refine he_gr h (f := 101) (c := 1) (o := 0) ⟨by decide, by decide⟩ rfl ?_
    refine he_gA h (f := 109) (c := 1) (o := 0) ⟨rfl, by decide⟩ rfl ?_
    refine he_gs h (f := 110) (c := 1) (o := 0) ⟨rfl, by decide, by decide⟩ rfl (fun v4 => ?_)
    refine he_ga h (f := 109) (o := 0) ⟨⟨rfl, by decide, by decide⟩, rfl⟩ (fun v5 => ?_)
    refine he_gr h (f := 111) (c := 1) (o := 0) ⟨by decide, by decide⟩ rfl ?_
    refine hx_is h ⟨rfl, by decide, by decide⟩ ?_
    refine hx_cv (eh_X2_unpack h) (fun μ7 h => ?_)
    exact (eh_X1_look_27 h)
noncomputable def h_X1_value_42 (t0 : Int) (μ : cM) : Option cO :=
  some (0, zi t0, μ)
theorem eh_X1_value_42 {B : Nat} {τ : zM} {t0 : Int} {μ : cM} (h : cOK B τ μ.2) : hR (hf B) (hp B τ) (f_X1_value_42 t0 (cw B μ)) (h_X1_value_42 t0 μ) := by
  unfold f_X1_value_42 h_X1_value_42
  first | exact hx_some rfl h | exact hx_some rfl trivial
noncomputable def h_X1_value_29 (μ : cM) : Option cO :=
  h_X1_value_42 (-1) μ
theorem eh_X1_value_29 {B : Nat} {τ : zM} {μ : cM} (h : cOK B τ μ.2) : hR (hf B) (hp B τ) (f_X1_value_29  (cw B μ)) (h_X1_value_29  μ) := by
  unfold f_X1_value_29 h_X1_value_29
  exact (eh_X1_value_42 h)
noncomputable def h_X1_value (x1 : Int) (μ : cM) : Option cO :=
  if x1 < 0 then
    h_X1_value_29 μ
  else
    if 8 ≤ x1 then
      h_X1_value_29 μ
    else
      hci (h_X1_look μ) fun v1 μ2 =>
      if v1 = 0 then
        h_X1_value_29 μ2
      else
        (hga μ2 200 0 x1).bind fun v5 =>
        if v5 ≠ 0 then
          (hga μ2 300 2 x1).bind fun v8 =>
          h_X1_value_42 v8 μ2
        else
          h_X1_value_29 μ2
theorem eh_X1_value {B : Nat} {τ : zM} {x1 : Int} {μ : cM} (h : cOK B τ μ.2) : hR (hf B) (hp B τ) (f_X1_value (cad B 1 0) x1 (cw B μ)) (h_X1_value x1 μ) := by
  unfold f_X1_value h_X1_value
  refine hx_if ?_ ?_
  · exact (eh_X1_value_29 h)
  · refine hx_if ?_ ?_
    · exact (eh_X1_value_29 h)
    · refine hx_is h ⟨rfl, by decide, by decide⟩ ?_
      refine hx_ci (eh_X1_look h) (fun v1 μ2 h => ?_)
      refine hx_if ?_ ?_
      · exact (eh_X1_value_29 h)
      · refine he_gr h (f := 101) (c := 1) (o := 0) ⟨by decide, by decide⟩ rfl ?_
        refine he_gA h (f := 200) (c := 2) (o := 0) ⟨rfl, by decide⟩ rfl ?_
        refine he_ga h (f := 200) (o := 0) ⟨⟨rfl, by decide, by decide⟩, rfl⟩ (fun v5 => ?_)
        refine hx_if ?_ ?_
        · refine he_gr h (f := 111) (c := 1) (o := 0) ⟨by decide, by decide⟩ rfl ?_
          refine he_gA h (f := 300) (c := 3) (o := 2) ⟨rfl, by decide⟩ rfl ?_
          refine he_ga h (f := 300) (o := 2) ⟨⟨rfl, by decide, by decide⟩, rfl⟩ (fun v8 => ?_)
          exact (eh_X1_value_42 h)
        · exact (eh_X1_value_29 h)
noncomputable def h_X1_message_30 (μ : cM) : Option cO :=
  some (0, zi (-1), μ)
theorem eh_X1_message_30 {B : Nat} {τ : zM} {μ : cM} (h : cOK B τ μ.2) : hR (hf B) (hp B τ) (f_X1_message_30  (cw B μ)) (h_X1_message_30  μ) := by
  unfold f_X1_message_30 h_X1_message_30
  first | exact hx_some rfl h | exact hx_some rfl trivial
noncomputable def h_X1_message_64 (t0 : Int) (μ : cM) : Option cO :=
  some (0, zi t0, μ)
theorem eh_X1_message_64 {B : Nat} {τ : zM} {t0 : Int} {μ : cM} (h : cOK B τ μ.2) : hR (hf B) (hp B τ) (f_X1_message_64 t0 (cw B μ)) (h_X1_message_64 t0 μ) := by
  unfold f_X1_message_64 h_X1_message_64
  first | exact hx_some rfl h | exact hx_some rfl trivial
noncomputable def h_X1_message_49 (μ : cM) : Option cO :=
  h_X1_message_64 (-1) μ
theorem eh_X1_message_49 {B : Nat} {τ : zM} {μ : cM} (h : cOK B τ μ.2) : hR (hf B) (hp B τ) (f_X1_message_49  (cw B μ)) (h_X1_message_49  μ) := by
  unfold f_X1_message_49 h_X1_message_49
  exact (eh_X1_message_64 h)
noncomputable def h_X1_message (x1 x2 : Int) (μ : cM) : Option cO :=
  if x1 < 0 then
    h_X1_message_30 μ
  else
    if 8 ≤ x1 then
      h_X1_message_30 μ
    else
      hci (h_X1_look μ) fun v1 μ2 =>
      if v1 = 0 then
        h_X1_message_30 μ2
      else
        (hga μ2 200 0 x1).bind fun v5 =>
        if v5 = 2 then
          if x2 < 0 then
            h_X1_message_49 μ2
          else
            (hga μ2 300 2 x1).bind fun v8 =>
            if x2 < v8 then
              (hqr x1).bind fun v11 =>
              (hgq μ2 2 v11 x2).bind fun v12 =>
              h_X1_message_64 v12 μ2
            else
              h_X1_message_49 μ2
        else
          h_X1_message_30 μ2
theorem eh_X1_message {B : Nat} {τ : zM} {x1 x2 : Int} {μ : cM} (h : cOK B τ μ.2) : hR (hf B) (hp B τ) (f_X1_message (cad B 1 0) x1 x2 (cw B μ)) (h_X1_message x1 x2 μ) := by
  unfold f_X1_message h_X1_message
  refine hx_if ?_ ?_
  · exact (eh_X1_message_30 h)
  · refine hx_if ?_ ?_
    · exact (eh_X1_message_30 h)
    · refine hx_is h ⟨rfl, by decide, by decide⟩ ?_
      refine hx_ci (eh_X1_look h) (fun v1 μ2 h => ?_)
      refine hx_if ?_ ?_
      · exact (eh_X1_message_30 h)
      · refine he_gr h (f := 101) (c := 1) (o := 0) ⟨by decide, by decide⟩ rfl ?_
        refine he_gA h (f := 200) (c := 2) (o := 0) ⟨rfl, by decide⟩ rfl ?_
        refine he_ga h (f := 200) (o := 0) ⟨⟨rfl, by decide, by decide⟩, rfl⟩ (fun v5 => ?_)
        refine hx_if ?_ ?_
        · refine hx_if ?_ ?_
          · exact (eh_X1_message_49 h)
          · refine he_gr h (f := 111) (c := 1) (o := 0) ⟨by decide, by decide⟩ rfl ?_
            refine he_gA h (f := 300) (c := 3) (o := 2) ⟨rfl, by decide⟩ rfl ?_
            refine he_ga h (f := 300) (o := 2) ⟨⟨rfl, by decide, by decide⟩, rfl⟩ (fun v8 => ?_)
            refine hx_if ?_ ?_
            · refine he_gr h (f := 111) (c := 1) (o := 0) ⟨by decide, by decide⟩ rfl ?_
              refine he_gA h (f := 301) (c := 3) (o := 2) ⟨rfl, by decide⟩ rfl ?_
              refine he_qr h (fun v11 => ?_)
              refine he_gq h (fun v12 => ?_)
              exact (eh_X1_message_64 h)
            · exact (eh_X1_message_49 h)
        · exact (eh_X1_message_30 h)
noncomputable def h_X1_point_35 (t0 : Int) (μ : cM) : Option cO :=
  some (0, zi t0, μ)
theorem eh_X1_point_35 {B : Nat} {τ : zM} {t0 : Int} {μ : cM} (h : cOK B τ μ.2) : hR (hf B) (hp B τ) (f_X1_point_35 t0 (cw B μ)) (h_X1_point_35 t0 μ) := by
  unfold f_X1_point_35 h_X1_point_35
  first | exact hx_some rfl h | exact hx_some rfl trivial
noncomputable def h_X1_point_22 (μ : cM) : Option cO :=
  h_X1_point_35 (-1) μ
theorem eh_X1_point_22 {B : Nat} {τ : zM} {μ : cM} (h : cOK B τ μ.2) : hR (hf B) (hp B τ) (f_X1_point_22  (cw B μ)) (h_X1_point_22  μ) := by
  unfold f_X1_point_22 h_X1_point_22
  exact (eh_X1_point_35 h)
noncomputable def h_X1_point (x1 : Int) (μ : cM) : Option cO :=
  if x1 < 0 then
    h_X1_point_22 μ
  else
    hci (h_X1_look μ) fun v1 μ2 =>
    if v1 = 0 then
      h_X1_point_22 μ2
    else
      zlet (hG μ2 204 0) fun v4 =>
      if x1 < v4 then
        (hga μ2 302 2 x1).bind fun v7 =>
        h_X1_point_35 v7 μ2
      else
        h_X1_point_22 μ2
theorem eh_X1_point {B : Nat} {τ : zM} {x1 : Int} {μ : cM} (h : cOK B τ μ.2) : hR (hf B) (hp B τ) (f_X1_point (cad B 1 0) x1 (cw B μ)) (h_X1_point x1 μ) := by
  unfold f_X1_point h_X1_point
  refine hx_if ?_ ?_
  · exact (eh_X1_point_22 h)
  · refine hx_is h ⟨rfl, by decide, by decide⟩ ?_
    refine hx_ci (eh_X1_look h) (fun v1 μ2 h => ?_)
    refine hx_if ?_ ?_
    · exact (eh_X1_point_22 h)
    · refine he_gr h (f := 101) (c := 1) (o := 0) ⟨by decide, by decide⟩ rfl ?_
      refine he_gs h (f := 204) (c := 2) (o := 0) ⟨rfl, by decide, by decide⟩ rfl (fun v4 => ?_)
      refine hx_if ?_ ?_
      · refine he_gr h (f := 111) (c := 1) (o := 0) ⟨by decide, by decide⟩ rfl ?_
        refine he_gA h (f := 302) (c := 3) (o := 2) ⟨rfl, by decide⟩ rfl ?_
        refine he_ga h (f := 302) (o := 2) ⟨⟨rfl, by decide, by decide⟩, rfl⟩ (fun v7 => ?_)
        exact (eh_X1_point_35 h)
      · exact (eh_X1_point_22 h)
noncomputable def h_X1_holder_20 (t0 : Int) (μ : cM) : Option cO :=
  some (0, zi t0, μ)
theorem eh_X1_holder_20 {B : Nat} {τ : zM} {t0 : Int} {μ : cM} (h : cOK B τ μ.2) : hR (hf B) (hp B τ) (f_X1_holder_20 t0 (cw B μ)) (h_X1_holder_20 t0 μ) := by
  unfold f_X1_holder_20 h_X1_holder_20
  first | exact hx_some rfl h | exact hx_some rfl trivial
noncomputable def h_X1_holder (μ : cM) : Option cO :=
  hci (h_X1_look μ) fun v1 μ2 =>
  if v1 = 0 then
    h_X1_holder_20 (-1) μ2
  else
    zlet (hG μ2 303 2) fun v4 =>
    h_X1_holder_20 (zsub v4 1) μ2
theorem eh_X1_holder {B : Nat} {τ : zM} {μ : cM} (h : cOK B τ μ.2) : hR (hf B) (hp B τ) (f_X1_holder (cad B 1 0) (cw B μ)) (h_X1_holder  μ) := by
  unfold f_X1_holder h_X1_holder
  refine hx_is h ⟨rfl, by decide, by decide⟩ ?_
  refine hx_ci (eh_X1_look h) (fun v1 μ2 h => ?_)
  refine hx_if ?_ ?_
  · exact (eh_X1_holder_20 h)
  · refine he_gr h (f := 111) (c := 1) (o := 0) ⟨by decide, by decide⟩ rfl ?_
    refine he_gs h (f := 303) (c := 3) (o := 2) ⟨rfl, by decide, by decide⟩ rfl (fun v4 => ?_)
    exact (eh_X1_holder_20 h)
noncomputable def h_X1_count_50 (t0 : Int) (μ : cM) : Option cO :=
  some (0, zi t0, μ)
theorem eh_X1_count_50 {B : Nat} {τ : zM} {t0 : Int} {μ : cM} (h : cOK B τ μ.2) : hR (hf B) (hp B τ) (f_X1_count_50 t0 (cw B μ)) (h_X1_count_50 t0 μ) := by
  unfold f_X1_count_50 h_X1_count_50
  first | exact hx_some rfl h | exact hx_some rfl trivial
noncomputable def h_X1_count_69 (t0 : Int) (μ : cM) : Option cO :=
  some (0, zi t0, μ)
theorem eh_X1_count_69 {B : Nat} {τ : zM} {t0 : Int} {μ : cM} (h : cOK B τ μ.2) : hR (hf B) (hp B τ) (f_X1_count_69 t0 (cw B μ)) (h_X1_count_69 t0 μ) := by
  unfold f_X1_count_69 h_X1_count_69
  first | exact hx_some rfl h | exact hx_some rfl trivial
noncomputable def h_X1_count_88 (t0 : Int) (μ : cM) : Option cO :=
  some (0, zi t0, μ)
theorem eh_X1_count_88 {B : Nat} {τ : zM} {t0 : Int} {μ : cM} (h : cOK B τ μ.2) : hR (hf B) (hp B τ) (f_X1_count_88 t0 (cw B μ)) (h_X1_count_88 t0 μ) := by
  unfold f_X1_count_88 h_X1_count_88
  first | exact hx_some rfl h | exact hx_some rfl trivial
noncomputable def h_X1_count_107 (t0 : Int) (μ : cM) : Option cO :=
  some (0, zi t0, μ)
theorem eh_X1_count_107 {B : Nat} {τ : zM} {t0 : Int} {μ : cM} (h : cOK B τ μ.2) : hR (hf B) (hp B τ) (f_X1_count_107 t0 (cw B μ)) (h_X1_count_107 t0 μ) := by
  unfold f_X1_count_107 h_X1_count_107
  first | exact hx_some rfl h | exact hx_some rfl trivial
noncomputable def h_X1_count (x1 : Int) (μ : cM) : Option cO :=
  if x1 = 0 then
    zlet (hG μ 106 0) fun v1 =>
    if v1 = 0 then
      h_X1_count_50 0 μ
    else
      zlet (hG μ 220 0) fun v3 =>
      h_X1_count_50 v3 μ
  else
    if x1 = 1 then
      zlet (hG μ 106 0) fun v4 =>
      if v4 = 0 then
        h_X1_count_69 0 μ
      else
        zlet (hG μ 221 0) fun v6 =>
        h_X1_count_69 v6 μ
    else
      if x1 = 2 then
        zlet (hG μ 106 0) fun v7 =>
        if v7 = 0 then
          h_X1_count_88 0 μ
        else
          zlet (hG μ 205 0) fun v9 =>
          h_X1_count_88 v9 μ
      else
        if x1 = 3 then
          zlet (hG μ 106 0) fun v10 =>
          if v10 = 0 then
            h_X1_count_107 0 μ
          else
            zlet (hG μ 204 0) fun v12 =>
            h_X1_count_107 v12 μ
        else
          some (0, zi (-1), μ)
theorem eh_X1_count {B : Nat} {τ : zM} {x1 : Int} {μ : cM} (h : cOK B τ μ.2) : hR (hf B) (hp B τ) (f_X1_count (cad B 1 0) x1 (cw B μ)) (h_X1_count x1 μ) := by
  unfold f_X1_count h_X1_count
  refine hx_if ?_ ?_
  · refine he_gs h (f := 106) (c := 1) (o := 0) ⟨rfl, by decide, by decide⟩ rfl (fun v1 => ?_)
    refine hx_if ?_ ?_
    · exact (eh_X1_count_50 h)
    · refine he_gr h (f := 101) (c := 1) (o := 0) ⟨by decide, by decide⟩ rfl ?_
      refine he_gs h (f := 220) (c := 2) (o := 0) ⟨rfl, by decide, by decide⟩ rfl (fun v3 => ?_)
      exact (eh_X1_count_50 h)
  · refine hx_if ?_ ?_
    · refine he_gs h (f := 106) (c := 1) (o := 0) ⟨rfl, by decide, by decide⟩ rfl (fun v4 => ?_)
      refine hx_if ?_ ?_
      · exact (eh_X1_count_69 h)
      · refine he_gr h (f := 101) (c := 1) (o := 0) ⟨by decide, by decide⟩ rfl ?_
        refine he_gs h (f := 221) (c := 2) (o := 0) ⟨rfl, by decide, by decide⟩ rfl (fun v6 => ?_)
        exact (eh_X1_count_69 h)
    · refine hx_if ?_ ?_
      · refine he_gs h (f := 106) (c := 1) (o := 0) ⟨rfl, by decide, by decide⟩ rfl (fun v7 => ?_)
        refine hx_if ?_ ?_
        · exact (eh_X1_count_88 h)
        · refine he_gr h (f := 101) (c := 1) (o := 0) ⟨by decide, by decide⟩ rfl ?_
          refine he_gs h (f := 205) (c := 2) (o := 0) ⟨rfl, by decide, by decide⟩ rfl (fun v9 => ?_)
          exact (eh_X1_count_88 h)
      · refine hx_if ?_ ?_
        · refine he_gs h (f := 106) (c := 1) (o := 0) ⟨rfl, by decide, by decide⟩ rfl (fun v10 => ?_)
          refine hx_if ?_ ?_
          · exact (eh_X1_count_107 h)
          · refine he_gr h (f := 101) (c := 1) (o := 0) ⟨by decide, by decide⟩ rfl ?_
            refine he_gs h (f := 204) (c := 2) (o := 0) ⟨rfl, by decide, by decide⟩ rfl (fun v12 => ?_)
            exact (eh_X1_count_107 h)
        · first | exact hx_some rfl h | exact hx_some rfl trivial

set_option maxRecDepth 100000
noncomputable def h_J0_getValue (x0 : Int) (μ : cM) : Option cO :=
  (zgf μ.2 2000 x0).bind fun v1 =>
  some (0, zr v1, μ)
theorem eh_J0_getValue {B : Nat} {τ : zM} {x0 : Int} {μ : cM} (h : cOK B τ μ.2) : hR (hf B) (hp B τ) (f_J0_getValue x0 (cw B μ)) (h_J0_getValue x0 μ) := by
  unfold f_J0_getValue h_J0_getValue
  refine he_gd 2000 rfl (fun v1 => ?_)
  first | exact hx_some rfl h | exact hx_some rfl trivial
noncomputable def h_J0_length (x0 : Int) (μ : cM) : Option cO :=
  (zgf μ.2 2003 x0).bind fun v1 =>
  some (0, zi v1, μ)
theorem eh_J0_length {B : Nat} {τ : zM} {x0 : Int} {μ : cM} (h : cOK B τ μ.2) : hR (hf B) (hp B τ) (f_J0_length x0 (cw B μ)) (h_J0_length x0 μ) := by
  unfold f_J0_length h_J0_length
  refine he_gd 2003 rfl (fun v1 => ?_)
  first | exact hx_some rfl h | exact hx_some rfl trivial
noncomputable def h_J1_length (x0 : Int) (μ : cM) : Option cO :=
  zgd (zis μ.2 21 x0) <|
  hci (h_J0_length x0 μ) fun v1 μ2 =>
  some (0, zi v1, μ2)
theorem eh_J1_length {B : Nat} {τ : zM} {x0 : Int} {μ : cM} (h : cOK B τ μ.2) : hR (hf B) (hp B τ) (f_J1_length x0 (cw B μ)) (h_J1_length x0 μ) := by
  unfold f_J1_length h_J1_length
  refine hx_gd ?_
  refine hx_ci (eh_J0_length h) (fun v1 μ2 h => ?_)
  first | exact hx_some rfl h | exact hx_some rfl trivial
noncomputable def h_J0_isLatin1_18 (t0 : Int) (μ : cM) : Option cO :=
  zgd (z01 t0) <|
  some (0, zi t0, μ)
theorem eh_J0_isLatin1_18 {B : Nat} {τ : zM} {t0 : Int} {μ : cM} (h : cOK B τ μ.2) : hR (hf B) (hp B τ) (f_J0_isLatin1_18 t0 (cw B μ)) (h_J0_isLatin1_18 t0 μ) := by
  unfold f_J0_isLatin1_18 h_J0_isLatin1_18
  refine hx_gd ?_
  first | exact hx_some rfl h | exact hx_some rfl trivial
noncomputable def h_J0_isLatin1_17 (μ : cM) : Option cO :=
  h_J0_isLatin1_18 0 μ
theorem eh_J0_isLatin1_17 {B : Nat} {τ : zM} {μ : cM} (h : cOK B τ μ.2) : hR (hf B) (hp B τ) (f_J0_isLatin1_17  (cw B μ)) (h_J0_isLatin1_17  μ) := by
  unfold f_J0_isLatin1_17 h_J0_isLatin1_17
  exact (eh_J0_isLatin1_18 h)
noncomputable def h_J0_isLatin1 (x0 : Int) (μ : cM) : Option cO :=
  if (1 : Int) = 0 then
    h_J0_isLatin1_17 μ
  else
    (zgf μ.2 2001 x0).bind fun v1 =>
    if v1 ≠ 0 then
      h_J0_isLatin1_17 μ
    else
      h_J0_isLatin1_18 1 μ
theorem eh_J0_isLatin1 {B : Nat} {τ : zM} {x0 : Int} {μ : cM} (h : cOK B τ μ.2) : hR (hf B) (hp B τ) (f_J0_isLatin1 x0 (cw B μ)) (h_J0_isLatin1 x0 μ) := by
  unfold f_J0_isLatin1 h_J0_isLatin1
  refine hx_if ?_ ?_
  · exact (eh_J0_isLatin1_17 h)
  · refine he_gd 2001 rfl (fun v1 => ?_)
    refine hx_if ?_ ?_
    · exact (eh_J0_isLatin1_17 h)
    · exact (eh_J0_isLatin1_18 h)
noncomputable def h_J13_checkLength (x0 x1 : Int) (μ : cM) : Option cO :=
  if x0 ≤ x1 then
    some (0, ((3, 0) : zV), μ)
  else
    none
theorem eh_J13_checkLength {B : Nat} {τ : zM} {x0 x1 : Int} {μ : cM} (h : cOK B τ μ.2) : hR (hf B) (hp B τ) (f_J13_checkLength x0 x1 (cw B μ)) (h_J13_checkLength x0 x1 μ) := by
  unfold f_J13_checkLength h_J13_checkLength
  refine hx_if ?_ ?_
  · first | exact hx_some rfl h | exact hx_some rfl trivial
  · exact hR_none _ _
noncomputable def h_J13_copyOfRangeByte (x0 x1 x2 : Int) (μ : cM) : Option cO :=
  hcv (h_J13_checkLength x1 x2 μ) fun μ1 =>
  zlet ((zsub x2 x1)) fun y2 =>
  (hup μ1 (znA μ1.2 104 y2)).bind fun μ3 =>
  zlet ((↑(zN μ1.2) : Int)) fun y4 =>
  (zla μ3.2 104 x0).bind fun v5 =>
  zlet (if y2 < (zsub v5 x1) then y2 else (zsub v5 x1)) fun y6 =>
  (hup μ3 (zcp μ3.2 104 x0 x1 y4 0 y6)).bind fun μ7 =>
  some (0, zr y4, μ7)
theorem eh_J13_copyOfRangeByte {B : Nat} {τ : zM} {x0 x1 x2 : Int} {μ : cM} (h : cOK B τ μ.2) : hR (hf B) (hp B τ) (f_J13_copyOfRangeByte x0 x1 x2 (cw B μ)) (h_J13_copyOfRangeByte x0 x1 x2 μ) := by
  unfold f_J13_copyOfRangeByte h_J13_copyOfRangeByte
  refine hx_cv (eh_J13_checkLength h) (fun μ1 h => ?_)
  refine hx_let (fun y2 => ?_)
  refine he_nA h (fun μ3 h => ?_)
  refine hx_let (fun y4 => ?_)
  refine he_lad (fun v5 => ?_)
  refine hx_let (fun y6 => ?_)
  refine he_cp h (by decide) (fun μ7 h => ?_)
  first | exact hx_some rfl h | exact hx_some rfl trivial
noncomputable def h_J13_copyOfRange_10 (x0 x1 x2 : Int) (μ : cM) : Option cO :=
  hcr (h_J13_copyOfRangeByte x0 x1 x2 μ) fun v1 μ2 =>
  some (0, zr v1, μ2)
theorem eh_J13_copyOfRange_10 {B : Nat} {τ : zM} {x0 x1 x2 : Int} {μ : cM} (h : cOK B τ μ.2) : hR (hf B) (hp B τ) (f_J13_copyOfRange_10 x0 x1 x2 (cw B μ)) (h_J13_copyOfRange_10 x0 x1 x2 μ) := by
  unfold f_J13_copyOfRange_10 h_J13_copyOfRange_10
  refine hx_cr (eh_J13_copyOfRangeByte h) (fun v1 μ2 h => ?_)
  first | exact hx_some rfl h | exact hx_some rfl trivial
noncomputable def h_J13_copyOfRange (x0 x1 x2 : Int) (μ : cM) : Option cO :=
  if x1 ≠ 0 then
    h_J13_copyOfRange_10 x0 x1 x2 μ
  else
    (zla μ.2 104 x0).bind fun v1 =>
    if x2 = v1 then
      (hup μ (zcln μ.2 x0)).bind fun μ2 =>
      zlet ((↑(zN μ.2) : Int)) fun y3 =>
      zgd (zis μ2.2 104 y3) <|
      some (0, zr y3, μ2)
    else
      h_J13_copyOfRange_10 x0 x1 x2 μ
theorem eh_J13_copyOfRange {B : Nat} {τ : zM} {x0 x1 x2 : Int} {μ : cM} (h : cOK B τ μ.2) : hR (hf B) (hp B τ) (f_J13_copyOfRange x0 x1 x2 (cw B μ)) (h_J13_copyOfRange x0 x1 x2 μ) := by
  unfold f_J13_copyOfRange h_J13_copyOfRange
  refine hx_if ?_ ?_
  · exact (eh_J13_copyOfRange_10 h)
  · refine he_lad (fun v1 => ?_)
    refine hx_if ?_ ?_
    · refine he_cln h (fun μ2 h => ?_)
      refine hx_let (fun y3 => ?_)
      refine hx_gd ?_
      first | exact hx_some rfl h | exact hx_some rfl trivial
    · exact (eh_J13_copyOfRange_10 h)
noncomputable def h_J2_init_2_97 (μ : cM) : Option cO :=
  some (0, ((3, 0) : zV), μ)
theorem eh_J2_init_2_97 {B : Nat} {τ : zM} {μ : cM} (h : cOK B τ μ.2) : hR (hf B) (hp B τ) (f_J2_init_2_97  (cw B μ)) (h_J2_init_2_97  μ) := by
  unfold f_J2_init_2_97 h_J2_init_2_97
  first | exact hx_some rfl h | exact hx_some rfl trivial
noncomputable def h_J2_init_2_79 (x0 x3 x4 : Int) (μ : cM) : Option cO :=
  zgd (zby 1) <|
  (hup μ (zpf μ.2 2101 x0 1)).bind fun μ1 =>
  hcr (h_J13_copyOfRange x3 0 (zshl x4 1) μ1) fun v2 μ3 =>
  (hup μ3 (zpf μ3.2 2100 x0 v2)).bind fun μ4 =>
  h_J2_init_2_97 μ4
theorem eh_J2_init_2_79 {B : Nat} {τ : zM} {x0 x3 x4 : Int} {μ : cM} (h : cOK B τ μ.2) : hR (hf B) (hp B τ) (f_J2_init_2_79 x0 x3 x4 (cw B μ)) (h_J2_init_2_79 x0 x3 x4 μ) := by
  unfold f_J2_init_2_79 h_J2_init_2_79
  refine hx_gd ?_
  refine he_pd h 2101 ⟨by decide, by decide⟩ rfl (fun μ1 h => ?_)
  refine hx_cr (eh_J13_copyOfRange h) (fun v2 μ3 h => ?_)
  refine he_pd h 2100 ⟨by decide, by decide⟩ rfl (fun μ4 h => ?_)
  exact (eh_J2_init_2_97 h)
noncomputable def h_J2_init_2 (x0 x1 x2 : Int) (μ : cM) : Option cO :=
  zgd (decide (0 ≤ x0)) <|
  zgd (zis μ.2 21 x1) <|
  hcr (h_J0_getValue x1 μ) fun v1 μ2 =>
  zgd (zis μ2.2 21 x1) <|
  hci (h_J1_length x1 μ2) fun v3 μ4 =>
  zgd (zis μ4.2 21 x1) <|
  hci (h_J0_isLatin1 x1 μ4) fun v5 μ6 =>
  if v5 = 0 then
    if (1 : Int) = 0 then
      h_J2_init_2_79 x0 v1 v3 μ6
    else
      (zgf μ6.2 2002 x1).bind fun v7 =>
      if v7 = 0 then
        h_J2_init_2_79 x0 v1 v3 μ6
      else
        none
  else
    zgd (zby 0) <|
    (hup μ6 (zpf μ6.2 2101 x0 0)).bind fun μ8 =>
    hcr (h_J13_copyOfRange v1 0 v3 μ8) fun v9 μ10 =>
    (hup μ10 (zpf μ10.2 2100 x0 v9)).bind fun μ11 =>
    h_J2_init_2_97 μ11
theorem eh_J2_init_2 {B : Nat} {τ : zM} {x0 x1 x2 : Int} {μ : cM} (h : cOK B τ μ.2) : hR (hf B) (hp B τ) (f_J2_init_2 x0 x1 x2 (cw B μ)) (h_J2_init_2 x0 x1 x2 μ) := by
  unfold f_J2_init_2 h_J2_init_2
  refine hx_gd ?_
  refine hx_gd ?_
  refine hx_cr (eh_J0_getValue h) (fun v1 μ2 h => ?_)
  refine hx_gd ?_
  refine hx_ci (eh_J1_length h) (fun v3 μ4 h => ?_)
  refine hx_gd ?_
  refine hx_ci (eh_J0_isLatin1 h) (fun v5 μ6 h => ?_)
  refine hx_if ?_ ?_
  · refine hx_if ?_ ?_
    · exact (eh_J2_init_2_79 h)
    · refine he_gd 2002 rfl (fun v7 => ?_)
      refine hx_if ?_ ?_
      · exact (eh_J2_init_2_79 h)
      · exact hR_none _ _
  · refine hx_gd ?_
    refine he_pd h 2101 ⟨by decide, by decide⟩ rfl (fun μ8 h => ?_)
    refine hx_cr (eh_J13_copyOfRange h) (fun v9 μ10 h => ?_)
    refine he_pd h 2100 ⟨by decide, by decide⟩ rfl (fun μ11 h => ?_)
    exact (eh_J2_init_2_97 h)
noncomputable def h_J2_init (x0 x1 : Int) (μ : cM) : Option cO :=
  zgd (decide (0 ≤ x0)) <|
  hcv (h_J2_init_2 x0 x1 (-1) μ) fun μ1 =>
  some (0, ((3, 0) : zV), μ1)
theorem eh_J2_init {B : Nat} {τ : zM} {x0 x1 : Int} {μ : cM} (h : cOK B τ μ.2) : hR (hf B) (hp B τ) (f_J2_init x0 x1 (cw B μ)) (h_J2_init x0 x1 μ) := by
  unfold f_J2_init h_J2_init
  refine hx_gd ?_
  refine hx_cv (eh_J2_init_2 h) (fun μ1 h => ?_)
  first | exact hx_some rfl h | exact hx_some rfl trivial
noncomputable def h_J1_toString (x0 : Int) (μ : cM) : Option cO :=
  (hup μ (znO μ.2 21 4)).bind fun μ1 =>
  zlet ((↑(zN μ.2) : Int)) fun y2 =>
  zgd (decide (0 ≤ y2)) <|
  hcv (h_J2_init y2 x0 μ1) fun μ3 =>
  some (0, zr y2, μ3)
theorem eh_J1_toString {B : Nat} {τ : zM} {x0 : Int} {μ : cM} (h : cOK B τ μ.2) : hR (hf B) (hp B τ) (f_J1_toString x0 (cw B μ)) (h_J1_toString x0 μ) := by
  unfold f_J1_toString h_J1_toString
  refine he_nO h (fun μ1 h => ?_)
  refine hx_let (fun y2 => ?_)
  refine hx_gd ?_
  refine hx_cv (eh_J2_init h) (fun μ3 h => ?_)
  first | exact hx_some rfl h | exact hx_some rfl trivial
noncomputable def h_J11_hugeLength (x0 x1 : Int) (μ : cM) : Option cO :=
  zlet ((zadd x0 x1)) fun y1 =>
  if 0 ≤ y1 then
    if 2147483639 < y1 then
      some (0, zi y1, μ)
    else
      some (0, zi 2147483639, μ)
  else
    none
theorem eh_J11_hugeLength {B : Nat} {τ : zM} {x0 x1 : Int} {μ : cM} (h : cOK B τ μ.2) : hR (hf B) (hp B τ) (f_J11_hugeLength x0 x1 (cw B μ)) (h_J11_hugeLength x0 x1 μ) := by
  unfold f_J11_hugeLength h_J11_hugeLength
  refine hx_let (fun y1 => ?_)
  refine hx_if ?_ ?_
  · refine hx_if ?_ ?_
    · first | exact hx_some rfl h | exact hx_some rfl trivial
    · first | exact hx_some rfl h | exact hx_some rfl trivial
  · exact hR_none _ _
noncomputable def h_J11_newLength_21 (x0 x1 : Int) (μ : cM) : Option cO :=
  hci (h_J11_hugeLength x0 x1 μ) fun v1 μ2 =>
  some (0, zi v1, μ2)
theorem eh_J11_newLength_21 {B : Nat} {τ : zM} {x0 x1 : Int} {μ : cM} (h : cOK B τ μ.2) : hR (hf B) (hp B τ) (f_J11_newLength_21 x0 x1 (cw B μ)) (h_J11_newLength_21 x0 x1 μ) := by
  unfold f_J11_newLength_21 h_J11_newLength_21
  refine hx_ci (eh_J11_hugeLength h) (fun v1 μ2 h => ?_)
  first | exact hx_some rfl h | exact hx_some rfl trivial
noncomputable def h_J11_newLength (x0 x1 x2 : Int) (μ : cM) : Option cO :=
  zlet (if x1 < x2 then x2 else x1) fun y1 =>
  zlet ((zadd x0 y1)) fun y2 =>
  if y2 ≤ 0 then
    h_J11_newLength_21 x0 x1 μ
  else
    if 2147483639 < y2 then
      h_J11_newLength_21 x0 x1 μ
    else
      some (0, zi y2, μ)
theorem eh_J11_newLength {B : Nat} {τ : zM} {x0 x1 x2 : Int} {μ : cM} (h : cOK B τ μ.2) : hR (hf B) (hp B τ) (f_J11_newLength x0 x1 x2 (cw B μ)) (h_J11_newLength x0 x1 x2 μ) := by
  unfold f_J11_newLength h_J11_newLength
  refine hx_let (fun y1 => ?_)
  refine hx_let (fun y2 => ?_)
  refine hx_if ?_ ?_
  · exact (eh_J11_newLength_21 h)
  · refine hx_if ?_ ?_
    · exact (eh_J11_newLength_21 h)
    · first | exact hx_some rfl h | exact hx_some rfl trivial
noncomputable def h_J0_newCapacity (x0 x1 : Int) (μ : cM) : Option cO :=
  (zgf μ.2 2000 x0).bind fun v1 =>
  (zla μ.2 104 v1).bind fun v2 =>
  (zgf μ.2 2001 x0).bind fun v3 =>
  zlet ((zshl x1 v3)) fun y4 =>
  zlet ((zsub y4 v2)) fun y5 =>
  (zgf μ.2 2001 x0).bind fun v6 =>
  hci (h_J11_newLength v2 y5 (zadd v2 (zshl 2 v6)) μ) fun v7 μ8 =>
  if v7 ≠ 2147483647 then
    (zgf μ8.2 2001 x0).bind fun v9 =>
    some (0, zi (zshr v7 v9), μ8)
  else
    none
theorem eh_J0_newCapacity {B : Nat} {τ : zM} {x0 x1 : Int} {μ : cM} (h : cOK B τ μ.2) : hR (hf B) (hp B τ) (f_J0_newCapacity x0 x1 (cw B μ)) (h_J0_newCapacity x0 x1 μ) := by
  unfold f_J0_newCapacity h_J0_newCapacity
  refine he_gd 2000 rfl (fun v1 => ?_)
  refine he_lad (fun v2 => ?_)
  refine he_gd 2001 rfl (fun v3 => ?_)
  refine hx_let (fun y4 => ?_)
  refine hx_let (fun y5 => ?_)
  refine he_gd 2001 rfl (fun v6 => ?_)
  refine hx_ci (eh_J11_newLength h) (fun v7 μ8 h => ?_)
  refine hx_if ?_ ?_
  · refine he_gd 2001 rfl (fun v9 => ?_)
    first | exact hx_some rfl h | exact hx_some rfl trivial
  · exact hR_none _ _
noncomputable def h_J13_copyOf (x0 x1 : Int) (μ : cM) : Option cO :=
  (zla μ.2 104 x0).bind fun v1 =>
  if x1 ≠ v1 then
    (hup μ (znA μ.2 104 x1)).bind fun μ2 =>
    zlet ((↑(zN μ.2) : Int)) fun y3 =>
    (zla μ2.2 104 x0).bind fun v4 =>
    zlet (if x1 < v4 then x1 else v4) fun y5 =>
    (hup μ2 (zcp μ2.2 104 x0 0 y3 0 y5)).bind fun μ6 =>
    some (0, zr y3, μ6)
  else
    (hup μ (zcln μ.2 x0)).bind fun μ7 =>
    zlet ((↑(zN μ.2) : Int)) fun y8 =>
    zgd (zis μ7.2 104 y8) <|
    some (0, zr y8, μ7)
theorem eh_J13_copyOf {B : Nat} {τ : zM} {x0 x1 : Int} {μ : cM} (h : cOK B τ μ.2) : hR (hf B) (hp B τ) (f_J13_copyOf x0 x1 (cw B μ)) (h_J13_copyOf x0 x1 μ) := by
  unfold f_J13_copyOf h_J13_copyOf
  refine he_lad (fun v1 => ?_)
  refine hx_if ?_ ?_
  · refine he_nA h (fun μ2 h => ?_)
    refine hx_let (fun y3 => ?_)
    refine he_lad (fun v4 => ?_)
    refine hx_let (fun y5 => ?_)
    refine he_cp h (by decide) (fun μ6 h => ?_)
    first | exact hx_some rfl h | exact hx_some rfl trivial
  · refine he_cln h (fun μ7 h => ?_)
    refine hx_let (fun y8 => ?_)
    refine hx_gd ?_
    first | exact hx_some rfl h | exact hx_some rfl trivial
noncomputable def h_J0_ensureCapacityInternal_38 (μ : cM) : Option cO :=
  some (0, ((3, 0) : zV), μ)
theorem eh_J0_ensureCapacityInternal_38 {B : Nat} {τ : zM} {μ : cM} (h : cOK B τ μ.2) : hR (hf B) (hp B τ) (f_J0_ensureCapacityInternal_38  (cw B μ)) (h_J0_ensureCapacityInternal_38  μ) := by
  unfold f_J0_ensureCapacityInternal_38 h_J0_ensureCapacityInternal_38
  first | exact hx_some rfl h | exact hx_some rfl trivial
noncomputable def h_J0_ensureCapacityInternal (x0 x1 : Int) (μ : cM) : Option cO :=
  (zgf μ.2 2000 x0).bind fun v1 =>
  (zla μ.2 104 v1).bind fun v2 =>
  (zgf μ.2 2001 x0).bind fun v3 =>
  zlet ((zshr v2 v3)) fun y4 =>
  if (zsub x1 y4) ≤ 0 then
    h_J0_ensureCapacityInternal_38 μ
  else
    (zgf μ.2 2000 x0).bind fun v5 =>
    zgd (zis μ.2 21 x0) <|
    hci (h_J0_newCapacity x0 x1 μ) fun v6 μ7 =>
    (zgf μ7.2 2001 x0).bind fun v8 =>
    hcr (h_J13_copyOf v5 (zshl v6 v8) μ7) fun v9 μ10 =>
    (hup μ10 (zpf μ10.2 2000 x0 v9)).bind fun μ11 =>
    h_J0_ensureCapacityInternal_38 μ11
theorem eh_J0_ensureCapacityInternal {B : Nat} {τ : zM} {x0 x1 : Int} {μ : cM} (h : cOK B τ μ.2) : hR (hf B) (hp B τ) (f_J0_ensureCapacityInternal x0 x1 (cw B μ)) (h_J0_ensureCapacityInternal x0 x1 μ) := by
  unfold f_J0_ensureCapacityInternal h_J0_ensureCapacityInternal
  refine he_gd 2000 rfl (fun v1 => ?_)
  refine he_lad (fun v2 => ?_)
  refine he_gd 2001 rfl (fun v3 => ?_)
  refine hx_let (fun y4 => ?_)
  refine hx_if ?_ ?_
  · exact (eh_J0_ensureCapacityInternal_38 h)
  · refine he_gd 2000 rfl (fun v5 => ?_)
    refine hx_gd ?_
    refine hx_ci (eh_J0_newCapacity h) (fun v6 μ7 h => ?_)
    refine he_gd 2001 rfl (fun v8 => ?_)
    refine hx_cr (eh_J13_copyOf h) (fun v9 μ10 h => ?_)
    refine he_pd h 2000 ⟨by decide, by decide⟩ rfl (fun μ11 h => ?_)
    exact (eh_J0_ensureCapacityInternal_38 h)
noncomputable def h_J13_rangeCheck (x0 x1 x2 : Int) (μ : cM) : Option cO :=
  if x1 ≤ x2 then
    if 0 ≤ x1 then
      if x2 ≤ x0 then
        some (0, ((3, 0) : zV), μ)
      else
        none
    else
      none
  else
    none
theorem eh_J13_rangeCheck {B : Nat} {τ : zM} {x0 x1 x2 : Int} {μ : cM} (h : cOK B τ μ.2) : hR (hf B) (hp B τ) (f_J13_rangeCheck x0 x1 x2 (cw B μ)) (h_J13_rangeCheck x0 x1 x2 μ) := by
  unfold f_J13_rangeCheck h_J13_rangeCheck
  refine hx_if ?_ ?_
  · refine hx_if ?_ ?_
    · refine hx_if ?_ ?_
      · first | exact hx_some rfl h | exact hx_some rfl trivial
      · exact hR_none _ _
    · exact hR_none _ _
  · exact hR_none _ _
noncomputable def h_J13_fill_27 (μ : cM) : Option cO :=
  some (0, ((3, 0) : zV), μ)
theorem eh_J13_fill_27 {B : Nat} {τ : zM} {μ : cM} (h : cOK B τ μ.2) : hR (hf B) (hp B τ) (f_J13_fill_27  (cw B μ)) (h_J13_fill_27  μ) := by
  unfold f_J13_fill_27 h_J13_fill_27
  first | exact hx_some rfl h | exact hx_some rfl trivial
noncomputable def h_J13_fill_10_b (x0 x2 x3 x4 : Int) (μ : cM) : Option ((Int × cM) ⊕ cO) :=
  if x2 ≤ x4 then
    (h_J13_fill_27 μ).map (fun r => (.inr r))
  else
    zgd (zby x3) <|
    (hup μ (zpa μ.2 104 x0 x4 x3)).bind fun μ1 =>
    zlet (zadd x4 1) fun y2 =>
    some (.inl (y2, μ1))
theorem eh_J13_fill_10_b {B : Nat} {τ : zM} {x0 x2 x3 x4 : Int} {μ : cM} (h : cOK B τ μ.2) : hR (Sum.map (fun s => (s.1, cw B s.2)) (hf B)) (Sum.elim (fun s : Int × cM => cOK B τ s.2.2) (hp B τ)) (f_J13_fill_10_b x0 x2 x3 x4 (cw B μ)) (h_J13_fill_10_b x0 x2 x3 x4 μ) := by
  unfold f_J13_fill_10_b h_J13_fill_10_b
  refine hx_if ?_ ?_
  · exact hx_map (eh_J13_fill_27 h) (fun r => rfl) (fun r q => q)
  · refine hx_gd ?_
    refine he_pad h (by decide) (fun μ1 h => ?_)
    refine hx_let (fun y2 => ?_)
    first | exact hx_some rfl h | exact hx_some rfl trivial
noncomputable def h_J13_fill_10 (x0 x2 x3 x4 : Int) (μ : cM) : Option cO :=
  zloop (fun s : Int × cM => h_J13_fill_10_b x0 x2 x3 s.1 s.2) (x4, μ)
theorem eh_J13_fill_10 {B : Nat} {τ : zM} {x0 x2 x3 x4 : Int} {μ : cM} (h : cOK B τ μ.2) : hR (hf B) (hp B τ) (f_J13_fill_10 x0 x2 x3 x4 (cw B μ)) (h_J13_fill_10 x0 x2 x3 x4 μ) := by
  unfold f_J13_fill_10 h_J13_fill_10
  refine hx_loop (φ := (fun s => (s.1, cw B s.2))) (Ps := (fun s : Int × cM => cOK B τ s.2.2)) (s := (x4, μ)) h (fun s hs => ?_)
  exact eh_J13_fill_10_b hs
noncomputable def h_J13_fill (x0 x1 x2 x3 : Int) (μ : cM) : Option cO :=
  (zla μ.2 104 x0).bind fun v1 =>
  hcv (h_J13_rangeCheck v1 x1 x2 μ) fun μ2 =>
  h_J13_fill_10 x0 x2 x3 x1 μ2
theorem eh_J13_fill {B : Nat} {τ : zM} {x0 x1 x2 x3 : Int} {μ : cM} (h : cOK B τ μ.2) : hR (hf B) (hp B τ) (f_J13_fill x0 x1 x2 x3 (cw B μ)) (h_J13_fill x0 x1 x2 x3 μ) := by
  unfold f_J13_fill h_J13_fill
  refine he_lad (fun v1 => ?_)
  refine hx_cv (eh_J13_rangeCheck h) (fun μ2 h => ?_)
  exact (eh_J13_fill_10 h)
noncomputable def h_J15_fillNull (x0 x1 x2 : Int) (μ : cM) : Option cO :=
  hcv (h_J13_fill x0 x1 x2 0 μ) fun μ1 =>
  some (0, ((3, 0) : zV), μ1)
theorem eh_J15_fillNull {B : Nat} {τ : zM} {x0 x1 x2 : Int} {μ : cM} (h : cOK B τ μ.2) : hR (hf B) (hp B τ) (f_J15_fillNull x0 x1 x2 (cw B μ)) (h_J15_fillNull x0 x1 x2 μ) := by
  unfold f_J15_fillNull h_J15_fillNull
  refine hx_cv (eh_J13_fill h) (fun μ1 h => ?_)
  first | exact hx_some rfl h | exact hx_some rfl trivial
noncomputable def h_J0_setLength_76 (x0 x1 : Int) (μ : cM) : Option cO :=
  (hup μ (zpf μ.2 2003 x0 x1)).bind fun μ1 =>
  some (0, ((3, 0) : zV), μ1)
theorem eh_J0_setLength_76 {B : Nat} {τ : zM} {x0 x1 : Int} {μ : cM} (h : cOK B τ μ.2) : hR (hf B) (hp B τ) (f_J0_setLength_76 x0 x1 (cw B μ)) (h_J0_setLength_76 x0 x1 μ) := by
  unfold f_J0_setLength_76 h_J0_setLength_76
  refine he_pd h 2003 ⟨by decide, by decide⟩ rfl (fun μ1 h => ?_)
  first | exact hx_some rfl h | exact hx_some rfl trivial
noncomputable def h_J0_setLength (x0 x1 : Int) (μ : cM) : Option cO :=
  if 0 ≤ x1 then
    zgd (zis μ.2 21 x0) <|
    hcv (h_J0_ensureCapacityInternal x0 x1 μ) fun μ1 =>
    (zgf μ1.2 2003 x0).bind fun v2 =>
    if x1 ≤ v2 then
      (zgf μ1.2 2003 x0).bind fun v3 =>
      if v3 ≤ x1 then
        h_J0_setLength_76 x0 x1 μ1
      else
        zgd (z01 1) <|
        (hup μ1 (zpf μ1.2 2002 x0 1)).bind fun μ4 =>
        h_J0_setLength_76 x0 x1 μ4
    else
      zgd (zis μ1.2 21 x0) <|
      hci (h_J0_isLatin1 x0 μ1) fun v5 μ6 =>
      if v5 = 0 then
        (zgf μ6.2 2000 x0).bind fun v7 =>
        (zgf μ6.2 2003 x0).bind fun v8 =>
        none
      else
        (zgf μ6.2 2000 x0).bind fun v9 =>
        (zgf μ6.2 2003 x0).bind fun v10 =>
        hcv (h_J15_fillNull v9 v10 x1 μ6) fun μ11 =>
        h_J0_setLength_76 x0 x1 μ11
  else
    none
theorem eh_J0_setLength {B : Nat} {τ : zM} {x0 x1 : Int} {μ : cM} (h : cOK B τ μ.2) : hR (hf B) (hp B τ) (f_J0_setLength x0 x1 (cw B μ)) (h_J0_setLength x0 x1 μ) := by
  unfold f_J0_setLength h_J0_setLength
  refine hx_if ?_ ?_
  · refine hx_gd ?_
    refine hx_cv (eh_J0_ensureCapacityInternal h) (fun μ1 h => ?_)
    refine he_gd 2003 rfl (fun v2 => ?_)
    refine hx_if ?_ ?_
    · refine he_gd 2003 rfl (fun v3 => ?_)
      refine hx_if ?_ ?_
      · exact (eh_J0_setLength_76 h)
      · refine hx_gd ?_
        refine he_pd h 2002 ⟨by decide, by decide⟩ rfl (fun μ4 h => ?_)
        exact (eh_J0_setLength_76 h)
    · refine hx_gd ?_
      refine hx_ci (eh_J0_isLatin1 h) (fun v5 μ6 h => ?_)
      refine hx_if ?_ ?_
      · refine he_gd 2000 rfl (fun v7 => ?_)
        refine he_gd 2003 rfl (fun v8 => ?_)
        exact hR_none _ _
      · refine he_gd 2000 rfl (fun v9 => ?_)
        refine he_gd 2003 rfl (fun v10 => ?_)
        refine hx_cv (eh_J15_fillNull h) (fun μ11 h => ?_)
        exact (eh_J0_setLength_76 h)
  · exact hR_none _ _
noncomputable def h_J1_setLength (x0 x1 : Int) (μ : cM) : Option cO :=
  zgd (zis μ.2 21 x0) <|
  hcv (h_J0_setLength x0 x1 μ) fun μ1 =>
  some (0, ((3, 0) : zV), μ1)
theorem eh_J1_setLength {B : Nat} {τ : zM} {x0 x1 : Int} {μ : cM} (h : cOK B τ μ.2) : hR (hf B) (hp B τ) (f_J1_setLength x0 x1 (cw B μ)) (h_J1_setLength x0 x1 μ) := by
  unfold f_J1_setLength h_J1_setLength
  refine hx_gd ?_
  refine hx_cv (eh_J0_setLength h) (fun μ1 h => ?_)
  first | exact hx_some rfl h | exact hx_some rfl trivial
noncomputable def h_X1_taken (μ : cM) : Option cO :=
  zlet (hG μ 100 0) fun v1 =>
  zgd (zis μ.2 21 v1) <|
  hcr (h_J1_toString v1 μ) fun v2 μ3 =>
  zlet (hG μ3 100 0) fun v4 =>
  zgd (zis μ3.2 21 v4) <|
  hcv (h_J1_setLength v4 0 μ3) fun μ5 =>
  hwl (hS μ5 108 0 (-1)) fun μ6 =>
  zgd (z01 0) <|
  hwl (hS μ6 107 0 0) fun μ7 =>
  hwl (hS μ7 105 0 (-1)) fun μ8 =>
  some (0, zr v2, μ8)
theorem eh_X1_taken {B : Nat} {τ : zM} {μ : cM} (h : cOK B τ μ.2) : hR (hf B) (hp B τ) (f_X1_taken (cad B 1 0) (cw B μ)) (h_X1_taken  μ) := by
  unfold f_X1_taken h_X1_taken
  refine he_gs h (f := 100) (c := 1) (o := 0) ⟨rfl, by decide, by decide⟩ rfl (fun v1 => ?_)
  refine hx_gd ?_
  refine hx_cr (eh_J1_toString h) (fun v2 μ3 h => ?_)
  refine he_gs h (f := 100) (c := 1) (o := 0) ⟨rfl, by decide, by decide⟩ rfl (fun v4 => ?_)
  refine hx_gd ?_
  refine hx_cv (eh_J1_setLength h) (fun μ5 h => ?_)
  refine he_ps h (f := 108) (c := 1) (o := 0) ⟨rfl, by decide, by decide⟩ rfl (fun μ6 h => ?_)
  refine hx_gd ?_
  refine he_ps h (f := 107) (c := 1) (o := 0) ⟨rfl, by decide, by decide⟩ rfl (fun μ7 h => ?_)
  refine he_ps h (f := 105) (c := 1) (o := 0) ⟨rfl, by decide, by decide⟩ rfl (fun μ8 h => ?_)
  first | exact hx_some rfl h | exact hx_some rfl trivial
noncomputable def h_X5_begin (x0 x1 : Int) (μ : cM) : Option cO :=
  hwl (hS μ 501 x0 x1) fun μ1 =>
  hwl (hS μ1 502 x0 0) fun μ2 =>
  some (0, ((3, 0) : zV), μ2)
theorem eh_X5_begin {B : Nat} {τ : zM} {x0 x1 : Int} {μ : cM} (h : cOK B τ μ.2) : hR (hf B) (hp B τ) (f_X5_begin (cad B 5 x0) x1 (cw B μ)) (h_X5_begin x0 x1 μ) := by
  unfold f_X5_begin h_X5_begin
  refine he_ps h (f := 501) (c := 5) (o := x0) ⟨rfl, by decide, by decide⟩ rfl (fun μ1 h => ?_)
  refine he_ps h (f := 502) (c := 5) (o := x0) ⟨rfl, by decide, by decide⟩ rfl (fun μ2 h => ?_)
  first | exact hx_some rfl h | exact hx_some rfl trivial
noncomputable def h_X2_clear_21 (μ : cM) : Option cO :=
  hwl (hS μ 202 0 0) fun μ1 =>
  hwl (hS μ1 203 0 0) fun μ2 =>
  hwl (hS μ2 204 0 0) fun μ3 =>
  hwl (hS μ3 205 0 0) fun μ4 =>
  hwl (hS μ4 220 0 0) fun μ5 =>
  hwl (hS μ5 221 0 0) fun μ6 =>
  some (0, ((3, 0) : zV), μ6)
theorem eh_X2_clear_21 {B : Nat} {τ : zM} {μ : cM} (h : cOK B τ μ.2) : hR (hf B) (hp B τ) (f_X2_clear_21 (cad B 2 0) (cw B μ)) (h_X2_clear_21  μ) := by
  unfold f_X2_clear_21 h_X2_clear_21
  refine he_ps h (f := 202) (c := 2) (o := 0) ⟨rfl, by decide, by decide⟩ rfl (fun μ1 h => ?_)
  refine he_ps h (f := 203) (c := 2) (o := 0) ⟨rfl, by decide, by decide⟩ rfl (fun μ2 h => ?_)
  refine he_ps h (f := 204) (c := 2) (o := 0) ⟨rfl, by decide, by decide⟩ rfl (fun μ3 h => ?_)
  refine he_ps h (f := 205) (c := 2) (o := 0) ⟨rfl, by decide, by decide⟩ rfl (fun μ4 h => ?_)
  refine he_ps h (f := 220) (c := 2) (o := 0) ⟨rfl, by decide, by decide⟩ rfl (fun μ5 h => ?_)
  refine he_ps h (f := 221) (c := 2) (o := 0) ⟨rfl, by decide, by decide⟩ rfl (fun μ6 h => ?_)
  first | exact hx_some rfl h | exact hx_some rfl trivial
noncomputable def h_X2_clear_2_b (x1 : Int) (μ : cM) : Option ((Int × cM) ⊕ cO) :=
  if 8 ≤ x1 then
    (h_X2_clear_21 μ).map (fun r => (.inr r))
  else
    (hpa μ 200 0 x1 0).bind fun μ2 =>
    zlet (zadd x1 1) fun y3 =>
    some (.inl (y3, μ2))
theorem eh_X2_clear_2_b {B : Nat} {τ : zM} {x1 : Int} {μ : cM} (h : cOK B τ μ.2) : hR (Sum.map (fun s => (s.1, cw B s.2)) (hf B)) (Sum.elim (fun s : Int × cM => cOK B τ s.2.2) (hp B τ)) (f_X2_clear_2_b (cad B 2 0) x1 (cw B μ)) (h_X2_clear_2_b x1 μ) := by
  unfold f_X2_clear_2_b h_X2_clear_2_b
  refine hx_if ?_ ?_
  · exact hx_map (eh_X2_clear_21 h) (fun r => rfl) (fun r q => q)
  · refine he_gA h (f := 200) (c := 2) (o := 0) ⟨rfl, by decide⟩ rfl ?_
    refine he_pa h (f := 200) (o := 0) ⟨⟨rfl, by decide, by decide⟩, rfl⟩ (fun μ2 h => ?_)
    refine hx_let (fun y3 => ?_)
    first | exact hx_some rfl h | exact hx_some rfl trivial
noncomputable def h_X2_clear_2 (x1 : Int) (μ : cM) : Option cO :=
  zloop (fun s : Int × cM => h_X2_clear_2_b s.1 s.2) (x1, μ)
theorem eh_X2_clear_2 {B : Nat} {τ : zM} {x1 : Int} {μ : cM} (h : cOK B τ μ.2) : hR (hf B) (hp B τ) (f_X2_clear_2 (cad B 2 0) x1 (cw B μ)) (h_X2_clear_2 x1 μ) := by
  unfold f_X2_clear_2 h_X2_clear_2
  refine hx_loop (φ := (fun s => (s.1, cw B s.2))) (Ps := (fun s : Int × cM => cOK B τ s.2.2)) (s := (x1, μ)) h (fun s hs => ?_)
  exact eh_X2_clear_2_b hs
noncomputable def h_X2_clear (μ : cM) : Option cO :=
  h_X2_clear_2 0 μ
theorem eh_X2_clear {B : Nat} {τ : zM} {μ : cM} (h : cOK B τ μ.2) : hR (hf B) (hp B τ) (f_X2_clear (cad B 2 0) (cw B μ)) (h_X2_clear  μ) := by
  unfold f_X2_clear h_X2_clear
  exact (eh_X2_clear_2 h)
noncomputable def h_J2_coder_14 (t0 : Int) (μ : cM) : Option cO :=
  zgd (zby t0) <|
  some (0, zi t0, μ)
theorem eh_J2_coder_14 {B : Nat} {τ : zM} {t0 : Int} {μ : cM} (h : cOK B τ μ.2) : hR (hf B) (hp B τ) (f_J2_coder_14 t0 (cw B μ)) (h_J2_coder_14 t0 μ) := by
  unfold f_J2_coder_14 h_J2_coder_14
  refine hx_gd ?_
  first | exact hx_some rfl h | exact hx_some rfl trivial
noncomputable def h_J2_coder (x0 : Int) (μ : cM) : Option cO :=
  if (1 : Int) = 0 then
    h_J2_coder_14 1 μ
  else
    (zgf μ.2 2101 x0).bind fun v1 =>
    h_J2_coder_14 v1 μ
theorem eh_J2_coder {B : Nat} {τ : zM} {x0 : Int} {μ : cM} (h : cOK B τ μ.2) : hR (hf B) (hp B τ) (f_J2_coder x0 (cw B μ)) (h_J2_coder x0 μ) := by
  unfold f_J2_coder h_J2_coder
  refine hx_if ?_ ?_
  · exact (eh_J2_coder_14 h)
  · refine he_gd 2101 rfl (fun v1 => ?_)
    exact (eh_J2_coder_14 h)
noncomputable def h_J2_length (x0 : Int) (μ : cM) : Option cO :=
  (zgf μ.2 2100 x0).bind fun v1 =>
  (zla μ.2 104 v1).bind fun v2 =>
  zgd (zis μ.2 22 x0) <|
  hci (h_J2_coder x0 μ) fun v3 μ4 =>
  some (0, zi (zshr v2 v3), μ4)
theorem eh_J2_length {B : Nat} {τ : zM} {x0 : Int} {μ : cM} (h : cOK B τ μ.2) : hR (hf B) (hp B τ) (f_J2_length x0 (cw B μ)) (h_J2_length x0 μ) := by
  unfold f_J2_length h_J2_length
  refine he_gd 2100 rfl (fun v1 => ?_)
  refine he_lad (fun v2 => ?_)
  refine hx_gd ?_
  refine hx_ci (eh_J2_coder h) (fun v3 μ4 h => ?_)
  first | exact hx_some rfl h | exact hx_some rfl trivial
noncomputable def h_J2_isLatin1_18 (t0 : Int) (μ : cM) : Option cO :=
  zgd (z01 t0) <|
  some (0, zi t0, μ)
theorem eh_J2_isLatin1_18 {B : Nat} {τ : zM} {t0 : Int} {μ : cM} (h : cOK B τ μ.2) : hR (hf B) (hp B τ) (f_J2_isLatin1_18 t0 (cw B μ)) (h_J2_isLatin1_18 t0 μ) := by
  unfold f_J2_isLatin1_18 h_J2_isLatin1_18
  refine hx_gd ?_
  first | exact hx_some rfl h | exact hx_some rfl trivial
noncomputable def h_J2_isLatin1_17 (μ : cM) : Option cO :=
  h_J2_isLatin1_18 0 μ
theorem eh_J2_isLatin1_17 {B : Nat} {τ : zM} {μ : cM} (h : cOK B τ μ.2) : hR (hf B) (hp B τ) (f_J2_isLatin1_17  (cw B μ)) (h_J2_isLatin1_17  μ) := by
  unfold f_J2_isLatin1_17 h_J2_isLatin1_17
  exact (eh_J2_isLatin1_18 h)
noncomputable def h_J2_isLatin1 (x0 : Int) (μ : cM) : Option cO :=
  if (1 : Int) = 0 then
    h_J2_isLatin1_17 μ
  else
    (zgf μ.2 2101 x0).bind fun v1 =>
    if v1 ≠ 0 then
      h_J2_isLatin1_17 μ
    else
      h_J2_isLatin1_18 1 μ
theorem eh_J2_isLatin1 {B : Nat} {τ : zM} {x0 : Int} {μ : cM} (h : cOK B τ μ.2) : hR (hf B) (hp B τ) (f_J2_isLatin1 x0 (cw B μ)) (h_J2_isLatin1 x0 μ) := by
  unfold f_J2_isLatin1 h_J2_isLatin1
  refine hx_if ?_ ?_
  · exact (eh_J2_isLatin1_17 h)
  · refine he_gd 2101 rfl (fun v1 => ?_)
    refine hx_if ?_ ?_
    · exact (eh_J2_isLatin1_17 h)
    · exact (eh_J2_isLatin1_18 h)
noncomputable def h_J14_checkIndex_9 (x0 x1 x2 : Int) (μ : cM) : Option cO :=
  none
theorem eh_J14_checkIndex_9 {B : Nat} {τ : zM} {x0 x1 x2 : Int} {μ : cM} (h : cOK B τ μ.2) : hR (hf B) (hp B τ) (f_J14_checkIndex_9 x0 x1 x2 (cw B μ)) (h_J14_checkIndex_9 x0 x1 x2 μ) := by
  unfold f_J14_checkIndex_9 h_J14_checkIndex_9
  exact hR_none _ _
noncomputable def h_J14_checkIndex (x0 x1 x2 : Int) (μ : cM) : Option cO :=
  if x0 < 0 then
    h_J14_checkIndex_9 x0 x1 x2 μ
  else
    if x0 < x1 then
      some (0, zi x0, μ)
    else
      h_J14_checkIndex_9 x0 x1 x2 μ
theorem eh_J14_checkIndex {B : Nat} {τ : zM} {x0 x1 x2 : Int} {μ : cM} (h : cOK B τ μ.2) : hR (hf B) (hp B τ) (f_J14_checkIndex x0 x1 x2 (cw B μ)) (h_J14_checkIndex x0 x1 x2 μ) := by
  unfold f_J14_checkIndex h_J14_checkIndex
  refine hx_if ?_ ?_
  · exact (eh_J14_checkIndex_9 h)
  · refine hx_if ?_ ?_
    · first | exact hx_some rfl h | exact hx_some rfl trivial
    · exact (eh_J14_checkIndex_9 h)
noncomputable def h_J2_checkIndex (x0 x1 : Int) (μ : cM) : Option cO :=
  hci (h_J14_checkIndex x0 x1 (-22) μ) fun v1 μ2 =>
  some (0, ((3, 0) : zV), μ2)
theorem eh_J2_checkIndex {B : Nat} {τ : zM} {x0 x1 : Int} {μ : cM} (h : cOK B τ μ.2) : hR (hf B) (hp B τ) (f_J2_checkIndex x0 x1 (cw B μ)) (h_J2_checkIndex x0 x1 μ) := by
  unfold f_J2_checkIndex h_J2_checkIndex
  refine hx_ci (eh_J14_checkIndex h) (fun v1 μ2 h => ?_)
  first | exact hx_some rfl h | exact hx_some rfl trivial
noncomputable def h_J15_charAt (x0 x1 : Int) (μ : cM) : Option cO :=
  (zla μ.2 104 x0).bind fun v1 =>
  hcv (h_J2_checkIndex x1 v1 μ) fun μ2 =>
  (zga μ2.2 104 x0 x1).bind fun v3 =>
  zgd (zch (zi2c (zand v3 255))) <|
  some (0, zi (zi2c (zand v3 255)), μ2)
theorem eh_J15_charAt {B : Nat} {τ : zM} {x0 x1 : Int} {μ : cM} (h : cOK B τ μ.2) : hR (hf B) (hp B τ) (f_J15_charAt x0 x1 (cw B μ)) (h_J15_charAt x0 x1 μ) := by
  unfold f_J15_charAt h_J15_charAt
  refine he_lad (fun v1 => ?_)
  refine hx_cv (eh_J2_checkIndex h) (fun μ2 h => ?_)
  refine he_gad h (by decide) (fun v3 => ?_)
  refine hx_gd ?_
  first | exact hx_some rfl h | exact hx_some rfl trivial
noncomputable def h_J2_charAt (x0 x1 : Int) (μ : cM) : Option cO :=
  zgd (zis μ.2 22 x0) <|
  hci (h_J2_isLatin1 x0 μ) fun v1 μ2 =>
  if v1 = 0 then
    (zgf μ2.2 2100 x0).bind fun v3 =>
    none
  else
    (zgf μ2.2 2100 x0).bind fun v4 =>
    hci (h_J15_charAt v4 x1 μ2) fun v5 μ6 =>
    zgd (zch v5) <|
    some (0, zi v5, μ6)
theorem eh_J2_charAt {B : Nat} {τ : zM} {x0 x1 : Int} {μ : cM} (h : cOK B τ μ.2) : hR (hf B) (hp B τ) (f_J2_charAt x0 x1 (cw B μ)) (h_J2_charAt x0 x1 μ) := by
  unfold f_J2_charAt h_J2_charAt
  refine hx_gd ?_
  refine hx_ci (eh_J2_isLatin1 h) (fun v1 μ2 h => ?_)
  refine hx_if ?_ ?_
  · refine he_gd 2100 rfl (fun v3 => ?_)
    exact hR_none _ _
  · refine he_gd 2100 rfl (fun v4 => ?_)
    refine hx_ci (eh_J15_charAt h) (fun v5 μ6 h => ?_)
    refine hx_gd ?_
    first | exact hx_some rfl h | exact hx_some rfl trivial
noncomputable def h_X5_now_29 (t0 : Int) (μ : cM) : Option cO :=
  zgd (zch t0) <|
  some (0, zi t0, μ)
theorem eh_X5_now_29 {B : Nat} {τ : zM} {t0 : Int} {μ : cM} (h : cOK B τ μ.2) : hR (hf B) (hp B τ) (f_X5_now_29 t0 (cw B μ)) (h_X5_now_29 t0 μ) := by
  unfold f_X5_now_29 h_X5_now_29
  refine hx_gd ?_
  first | exact hx_some rfl h | exact hx_some rfl trivial
noncomputable def h_X5_now (x0 : Int) (μ : cM) : Option cO :=
  zlet (hG μ 502 x0) fun v1 =>
  zlet (hG μ 501 x0) fun v2 =>
  zgd (zis μ.2 22 v2) <|
  hci (h_J2_length v2 μ) fun v3 μ4 =>
  if v3 ≤ v1 then
    h_X5_now_29 0 μ4
  else
    zlet (hG μ4 501 x0) fun v5 =>
    zlet (hG μ4 502 x0) fun v6 =>
    zgd (zis μ4.2 22 v5) <|
    hci (h_J2_charAt v5 v6 μ4) fun v7 μ8 =>
    h_X5_now_29 v7 μ8
theorem eh_X5_now {B : Nat} {τ : zM} {x0 : Int} {μ : cM} (h : cOK B τ μ.2) : hR (hf B) (hp B τ) (f_X5_now (cad B 5 x0) (cw B μ)) (h_X5_now x0 μ) := by
  unfold f_X5_now h_X5_now
  refine he_gs h (f := 502) (c := 5) (o := x0) ⟨rfl, by decide, by decide⟩ rfl (fun v1 => ?_)
  refine he_gs h (f := 501) (c := 5) (o := x0) ⟨rfl, by decide, by decide⟩ rfl (fun v2 => ?_)
  refine hx_gd ?_
  refine hx_ci (eh_J2_length h) (fun v3 μ4 h => ?_)
  refine hx_if ?_ ?_
  · exact (eh_X5_now_29 h)
  · refine he_gs h (f := 501) (c := 5) (o := x0) ⟨rfl, by decide, by decide⟩ rfl (fun v5 => ?_)
    refine he_gs h (f := 502) (c := 5) (o := x0) ⟨rfl, by decide, by decide⟩ rfl (fun v6 => ?_)
    refine hx_gd ?_
    refine hx_ci (eh_J2_charAt h) (fun v7 μ8 h => ?_)
    exact (eh_X5_now_29 h)
noncomputable def h_X5_take_28 (x2 : Int) (μ : cM) : Option cO :=
  zgd (z01 x2) <|
  some (0, zi x2, μ)
theorem eh_X5_take_28 {B : Nat} {τ : zM} {x2 : Int} {μ : cM} (h : cOK B τ μ.2) : hR (hf B) (hp B τ) (f_X5_take_28 x2 (cw B μ)) (h_X5_take_28 x2 μ) := by
  unfold f_X5_take_28 h_X5_take_28
  refine hx_gd ?_
  first | exact hx_some rfl h | exact hx_some rfl trivial
noncomputable def h_X5_take_13 (x0 t0 : Int) (μ : cM) : Option cO :=
  if t0 = 0 then
    h_X5_take_28 t0 μ
  else
    zlet (hG μ 502 x0) fun v1 =>
    hwl (hS μ 502 x0 (zadd v1 1)) fun μ2 =>
    h_X5_take_28 t0 μ2
theorem eh_X5_take_13 {B : Nat} {τ : zM} {x0 t0 : Int} {μ : cM} (h : cOK B τ μ.2) : hR (hf B) (hp B τ) (f_X5_take_13 (cad B 5 x0) t0 (cw B μ)) (h_X5_take_13 x0 t0 μ) := by
  unfold f_X5_take_13 h_X5_take_13
  refine hx_if ?_ ?_
  · exact (eh_X5_take_28 h)
  · refine he_gs h (f := 502) (c := 5) (o := x0) ⟨rfl, by decide, by decide⟩ rfl (fun v1 => ?_)
    refine he_ps h (f := 502) (c := 5) (o := x0) ⟨rfl, by decide, by decide⟩ rfl (fun μ2 h => ?_)
    exact (eh_X5_take_28 h)
noncomputable def h_X5_take (x0 x1 : Int) (μ : cM) : Option cO :=
  hci (h_X5_now x0 μ) fun v1 μ2 =>
  if v1 ≠ x1 then
    h_X5_take_13 x0 0 μ2
  else
    h_X5_take_13 x0 1 μ2
theorem eh_X5_take {B : Nat} {τ : zM} {x0 x1 : Int} {μ : cM} (h : cOK B τ μ.2) : hR (hf B) (hp B τ) (f_X5_take (cad B 5 x0) x1 (cw B μ)) (h_X5_take x0 x1 μ) := by
  unfold f_X5_take h_X5_take
  refine hx_is2 h ?_
  refine hx_ci (eh_X5_now h) (fun v1 μ2 h => ?_)
  refine hx_if ?_ ?_
  · exact (eh_X5_take_13 h)
  · exact (eh_X5_take_13 h)
noncomputable def h_X5_need (x0 : Int) (μ : cM) : Option cO :=
  if x0 ≠ 0 then
    some (0, ((3, 0) : zV), μ)
  else
    (hup μ (znX μ.2 51)).bind fun μ1 =>
    zgd (zis μ1.2 51 (↑(zN μ.2) : Int)) <|
    some (1, zr (↑(zN μ.2) : Int), μ1)
theorem eh_X5_need {B : Nat} {τ : zM} {x0 : Int} {μ : cM} (h : cOK B τ μ.2) : hR (hf B) (hp B τ) (f_X5_need x0 (cw B μ)) (h_X5_need x0 μ) := by
  unfold f_X5_need h_X5_need
  refine hx_if ?_ ?_
  · first | exact hx_some rfl h | exact hx_some rfl trivial
  · refine he_nX h (fun μ1 h => ?_)
    refine hx_gd ?_
    first | exact hx_some rfl h | exact hx_some rfl trivial
noncomputable def h_X5_letter_21 (x0 x3 t0 : Int) (μ : cM) : Option cO :=
  hcvT (h_X5_need t0 μ) (fun n a μ1 => some (n + 1, zr a, μ1)) fun μ1 =>
  zlet (hG μ1 502 x0) fun v2 =>
  hwl (hS μ1 502 x0 (zadd v2 1)) fun μ3 =>
  some (0, zi x3, μ3)
theorem eh_X5_letter_21 {B : Nat} {τ : zM} {x0 x3 t0 : Int} {μ : cM} (h : cOK B τ μ.2) : hR (hf B) (hp B τ) (f_X5_letter_21 (cad B 5 x0) x3 t0 (cw B μ)) (h_X5_letter_21 x0 x3 t0 μ) := by
  unfold f_X5_letter_21 h_X5_letter_21
  refine hx_cvT (eh_X5_need h) (fun n a μ1 h => hx_some rfl h) (fun μ1 h => ?_)
  refine he_gs h (f := 502) (c := 5) (o := x0) ⟨rfl, by decide, by decide⟩ rfl (fun v2 => ?_)
  refine he_ps h (f := 502) (c := 5) (o := x0) ⟨rfl, by decide, by decide⟩ rfl (fun μ3 h => ?_)
  first | exact hx_some rfl h | exact hx_some rfl trivial
noncomputable def h_X5_letter_20 (x0 x3 : Int) (μ : cM) : Option cO :=
  h_X5_letter_21 x0 x3 0 μ
theorem eh_X5_letter_20 {B : Nat} {τ : zM} {x0 x3 : Int} {μ : cM} (h : cOK B τ μ.2) : hR (hf B) (hp B τ) (f_X5_letter_20 (cad B 5 x0) x3 (cw B μ)) (h_X5_letter_20 x0 x3 μ) := by
  unfold f_X5_letter_20 h_X5_letter_20
  exact (eh_X5_letter_21 h)
noncomputable def h_X5_letter (x0 x1 x2 : Int) (μ : cM) : Option cO :=
  hci (h_X5_now x0 μ) fun v1 μ2 =>
  zlet ((zsub v1 x1)) fun y3 =>
  if y3 < 0 then
    h_X5_letter_20 x0 y3 μ2
  else
    if x2 ≤ y3 then
      h_X5_letter_20 x0 y3 μ2
    else
      h_X5_letter_21 x0 y3 1 μ2
theorem eh_X5_letter {B : Nat} {τ : zM} {x0 x1 x2 : Int} {μ : cM} (h : cOK B τ μ.2) : hR (hf B) (hp B τ) (f_X5_letter (cad B 5 x0) x1 x2 (cw B μ)) (h_X5_letter x0 x1 x2 μ) := by
  unfold f_X5_letter h_X5_letter
  refine hx_is2 h ?_
  refine hx_ci (eh_X5_now h) (fun v1 μ2 h => ?_)
  refine hx_let (fun y3 => ?_)
  refine hx_if ?_ ?_
  · exact (eh_X5_letter_20 h)
  · refine hx_if ?_ ?_
    · exact (eh_X5_letter_20 h)
    · exact (eh_X5_letter_21 h)
noncomputable def h_X2_declare_49 (μ : cM) : Option cO :=
  some (0, ((3, 0) : zV), μ)
theorem eh_X2_declare_49 {B : Nat} {τ : zM} {μ : cM} (h : cOK B τ μ.2) : hR (hf B) (hp B τ) (f_X2_declare_49  (cw B μ)) (h_X2_declare_49  μ) := by
  unfold f_X2_declare_49 h_X2_declare_49
  first | exact hx_some rfl h | exact hx_some rfl trivial
noncomputable def h_X2_declare_14 (x1 x2 x3 t0 t1 : Int) (μ : cM) : Option cO :=
  (hpa μ 200 0 t1 t0).bind fun μ1 =>
  (hpa μ1 201 0 x1 x3).bind fun μ3 =>
  if x2 = 0 then
    zlet (hG μ3 202 0) fun v4 =>
    hwl (hS μ3 202 0 (zadd v4 1)) fun μ5 =>
    h_X2_declare_49 μ5
  else
    zlet (hG μ3 203 0) fun v6 =>
    hwl (hS μ3 203 0 (zadd v6 1)) fun μ7 =>
    h_X2_declare_49 μ7
theorem eh_X2_declare_14 {B : Nat} {τ : zM} {x1 x2 x3 t0 t1 : Int} {μ : cM} (h : cOK B τ μ.2) : hR (hf B) (hp B τ) (f_X2_declare_14 (cad B 2 0) x1 x2 x3 t0 t1 (caa B 200 0) (cw B μ)) (h_X2_declare_14 x1 x2 x3 t0 t1 μ) := by
  unfold f_X2_declare_14 h_X2_declare_14
  refine he_pa h (f := 200) (o := 0) ⟨⟨rfl, by decide, by decide⟩, rfl⟩ (fun μ1 h => ?_)
  refine he_gA h (f := 201) (c := 2) (o := 0) ⟨rfl, by decide⟩ rfl ?_
  refine he_pa h (f := 201) (o := 0) ⟨⟨rfl, by decide, by decide⟩, rfl⟩ (fun μ3 h => ?_)
  refine hx_if ?_ ?_
  · refine he_gs h (f := 202) (c := 2) (o := 0) ⟨rfl, by decide, by decide⟩ rfl (fun v4 => ?_)
    refine he_ps h (f := 202) (c := 2) (o := 0) ⟨rfl, by decide, by decide⟩ rfl (fun μ5 h => ?_)
    exact (eh_X2_declare_49 h)
  · refine he_gs h (f := 203) (c := 2) (o := 0) ⟨rfl, by decide, by decide⟩ rfl (fun v6 => ?_)
    refine he_ps h (f := 203) (c := 2) (o := 0) ⟨rfl, by decide, by decide⟩ rfl (fun μ7 h => ?_)
    exact (eh_X2_declare_49 h)
noncomputable def h_X2_declare (x1 x2 x3 : Int) (μ : cM) : Option cO :=
  if x2 = 0 then
    h_X2_declare_14 x1 x2 x3 1 x1 μ
  else
    h_X2_declare_14 x1 x2 x3 2 x1 μ
theorem eh_X2_declare {B : Nat} {τ : zM} {x1 x2 x3 : Int} {μ : cM} (h : cOK B τ μ.2) : hR (hf B) (hp B τ) (f_X2_declare (cad B 2 0) x1 x2 x3 (cw B μ)) (h_X2_declare x1 x2 x3 μ) := by
  unfold f_X2_declare h_X2_declare
  refine he_gA h (f := 200) (c := 2) (o := 0) ⟨rfl, by decide⟩ rfl ?_
  refine hx_if ?_ ?_
  · exact (eh_X2_declare_14 h)
  · exact (eh_X2_declare_14 h)
noncomputable def h_X5_sign (x0 x1 : Int) (μ : cM) : Option cO :=
  hci (h_X5_take x0 x1 μ) fun v1 μ2 =>
  hcvT (h_X5_need v1 μ2) (fun n a μ3 => some (n + 1, zr a, μ3)) fun μ3 =>
  some (0, ((3, 0) : zV), μ3)
theorem eh_X5_sign {B : Nat} {τ : zM} {x0 x1 : Int} {μ : cM} (h : cOK B τ μ.2) : hR (hf B) (hp B τ) (f_X5_sign (cad B 5 x0) x1 (cw B μ)) (h_X5_sign x0 x1 μ) := by
  unfold f_X5_sign h_X5_sign
  refine hx_is2 h ?_
  refine hx_ci (eh_X5_take h) (fun v1 μ2 h => ?_)
  refine hx_cvT (eh_X5_need h) (fun n a μ3 h => hx_some rfl h) (fun μ3 h => ?_)
  first | exact hx_some rfl h | exact hx_some rfl trivial
noncomputable def h_X6_declaration_125 (x1 x2 x3 : Int) (μ : cM) : Option cO :=
  hcv (h_X2_declare x2 x1 x3 μ) fun μ2 =>
  hcvT (h_X5_sign 0 59 μ2) (fun n a μ3 => some (n + 1, zr a, μ3)) fun μ3 =>
  some (0, ((3, 0) : zV), μ3)
theorem eh_X6_declaration_125 {B : Nat} {τ : zM} {x1 x2 x3 : Int} {μ : cM} (h : cOK B τ μ.2) : hR (hf B) (hp B τ) (f_X6_declaration_125 (cad B 5 0) x1 x2 x3 (cw B μ)) (h_X6_declaration_125 x1 x2 x3 μ) := by
  unfold f_X6_declaration_125 h_X6_declaration_125
  refine he_gr h (f := 500) (c := 5) (o := 0) ⟨by decide, by decide⟩ rfl ?_
  refine hx_is h ⟨rfl, by decide, by decide⟩ ?_
  refine hx_cv (eh_X2_declare h) (fun μ2 h => ?_)
  refine hx_is h ⟨rfl, by decide, by decide⟩ ?_
  refine hx_cvT (eh_X5_sign h) (fun n a μ3 h => hx_some rfl h) (fun μ3 h => ?_)
  first | exact hx_some rfl h | exact hx_some rfl trivial
noncomputable def h_X6_declaration_78 (x1 t0 : Int) (μ : cM) : Option cO :=
  hcvT (h_X5_need t0 μ) (fun n a μ1 => some (n + 1, zr a, μ1)) fun μ1 =>
  hciT (h_X5_letter 0 97 8 μ1) (fun n a μ3 => some (n + 1, zr a, μ3)) fun v2 μ3 =>
  if x1 = 0 then
    hci (h_X5_take 0 61 μ3) fun v4 μ5 =>
    if v4 = 0 then
      h_X6_declaration_125 x1 v2 0 μ5
    else
      hciT (h_X5_letter 0 48 8 μ5) (fun n a μ7 => some (n + 1, zr a, μ7)) fun v6 μ7 =>
      h_X6_declaration_125 x1 v2 v6 μ7
  else
    hciT (h_X5_letter 0 48 4 μ3) (fun n a μ9 => some (n + 1, zr a, μ9)) fun v8 μ9 =>
    h_X6_declaration_125 x1 v2 v8 μ9
theorem eh_X6_declaration_78 {B : Nat} {τ : zM} {x1 t0 : Int} {μ : cM} (h : cOK B τ μ.2) : hR (hf B) (hp B τ) (f_X6_declaration_78 (cad B 5 0) x1 t0 (cw B μ)) (h_X6_declaration_78 x1 t0 μ) := by
  unfold f_X6_declaration_78 h_X6_declaration_78
  refine hx_cvT (eh_X5_need h) (fun n a μ1 h => hx_some rfl h) (fun μ1 h => ?_)
  refine hx_is h ⟨rfl, by decide, by decide⟩ ?_
  refine hx_ciT (eh_X5_letter h) (fun n a μ3 h => hx_some rfl h) (fun v2 μ3 h => ?_)
  refine hx_if ?_ ?_
  · refine hx_is h ⟨rfl, by decide, by decide⟩ ?_
    refine hx_ci (eh_X5_take h) (fun v4 μ5 h => ?_)
    refine hx_if ?_ ?_
    · exact (eh_X6_declaration_125 h)
    · refine hx_is h ⟨rfl, by decide, by decide⟩ ?_
      refine hx_ciT (eh_X5_letter h) (fun n a μ7 h => hx_some rfl h) (fun v6 μ7 h => ?_)
      exact (eh_X6_declaration_125 h)
  · refine hx_is h ⟨rfl, by decide, by decide⟩ ?_
    refine hx_ciT (eh_X5_letter h) (fun n a μ9 h => hx_some rfl h) (fun v8 μ9 h => ?_)
    exact (eh_X6_declaration_125 h)
noncomputable def h_X6_declaration_77 (x1 : Int) (μ : cM) : Option cO :=
  h_X6_declaration_78 x1 0 μ
theorem eh_X6_declaration_77 {B : Nat} {τ : zM} {x1 : Int} {μ : cM} (h : cOK B τ μ.2) : hR (hf B) (hp B τ) (f_X6_declaration_77 (cad B 5 0) x1 (cw B μ)) (h_X6_declaration_77 x1 μ) := by
  unfold f_X6_declaration_77 h_X6_declaration_77
  exact (eh_X6_declaration_78 h)
noncomputable def h_X6_declaration_73 (x1 : Int) (μ : cM) : Option cO :=
  h_X6_declaration_78 x1 1 μ
theorem eh_X6_declaration_73 {B : Nat} {τ : zM} {x1 : Int} {μ : cM} (h : cOK B τ μ.2) : hR (hf B) (hp B τ) (f_X6_declaration_73 (cad B 5 0) x1 (cw B μ)) (h_X6_declaration_73 x1 μ) := by
  unfold f_X6_declaration_73 h_X6_declaration_73
  exact (eh_X6_declaration_78 h)
noncomputable def h_X6_declaration (μ : cM) : Option cO :=
  hci (h_X5_take 0 35 μ) fun v1 μ2 =>
  hci (h_X5_now 0 μ2) fun v3 μ4 =>
  if v3 < 97 then
    h_X6_declaration_77 v1 μ4
  else
    hci (h_X5_now 0 μ4) fun v5 μ6 =>
    if 104 < v5 then
      h_X6_declaration_77 v1 μ6
    else
      hci (h_X5_now 0 μ6) fun v9 μ10 =>
      (hga μ10 200 0 (zsub v9 97)).bind fun v11 =>
      if v11 ≠ 0 then
        h_X6_declaration_77 v1 μ10
      else
        if v1 = 0 then
          zlet (hG μ10 202 0) fun v13 =>
          if 6 ≤ v13 then
            h_X6_declaration_77 v1 μ10
          else
            h_X6_declaration_73 v1 μ10
        else
          zlet (hG μ10 203 0) fun v15 =>
          if 2 ≤ v15 then
            h_X6_declaration_77 v1 μ10
          else
            h_X6_declaration_73 v1 μ10
theorem eh_X6_declaration {B : Nat} {τ : zM} {μ : cM} (h : cOK B τ μ.2) : hR (hf B) (hp B τ) (f_X6_declaration (cad B 5 0) (cw B μ)) (h_X6_declaration  μ) := by
  unfold f_X6_declaration h_X6_declaration
  refine hx_is h ⟨rfl, by decide, by decide⟩ ?_
  refine hx_ci (eh_X5_take h) (fun v1 μ2 h => ?_)
  refine hx_is h ⟨rfl, by decide, by decide⟩ ?_
  refine hx_ci (eh_X5_now h) (fun v3 μ4 h => ?_)
  refine hx_if ?_ ?_
  · exact (eh_X6_declaration_77 h)
  · refine hx_is h ⟨rfl, by decide, by decide⟩ ?_
    refine hx_ci (eh_X5_now h) (fun v5 μ6 h => ?_)
    refine hx_if ?_ ?_
    · exact (eh_X6_declaration_77 h)
    · refine he_gr h (f := 500) (c := 5) (o := 0) ⟨by decide, by decide⟩ rfl ?_
      refine he_gA h (f := 200) (c := 2) (o := 0) ⟨rfl, by decide⟩ rfl ?_
      refine hx_is h ⟨rfl, by decide, by decide⟩ ?_
      refine hx_ci (eh_X5_now h) (fun v9 μ10 h => ?_)
      refine he_ga h (f := 200) (o := 0) ⟨⟨rfl, by decide, by decide⟩, rfl⟩ (fun v11 => ?_)
      refine hx_if ?_ ?_
      · exact (eh_X6_declaration_77 h)
      · refine hx_if ?_ ?_
        · refine he_gr h (f := 500) (c := 5) (o := 0) ⟨by decide, by decide⟩ rfl ?_
          refine he_gs h (f := 202) (c := 2) (o := 0) ⟨rfl, by decide, by decide⟩ rfl (fun v13 => ?_)
          refine hx_if ?_ ?_
          · exact (eh_X6_declaration_77 h)
          · exact (eh_X6_declaration_73 h)
        · refine he_gr h (f := 500) (c := 5) (o := 0) ⟨by decide, by decide⟩ rfl ?_
          refine he_gs h (f := 203) (c := 2) (o := 0) ⟨rfl, by decide, by decide⟩ rfl (fun v15 => ?_)
          refine hx_if ?_ ?_
          · exact (eh_X6_declaration_77 h)
          · exact (eh_X6_declaration_73 h)
noncomputable def h_X4_clear_57 (μ : cM) : Option cO :=
  some (0, ((3, 0) : zV), μ)
theorem eh_X4_clear_57 {B : Nat} {τ : zM} {μ : cM} (h : cOK B τ μ.2) : hR (hf B) (hp B τ) (f_X4_clear_57  (cw B μ)) (h_X4_clear_57  μ) := by
  unfold f_X4_clear_57 h_X4_clear_57
  first | exact hx_some rfl h | exact hx_some rfl trivial
noncomputable def h_X4_clear_38_b (x0 x1 : Int) (μ : cM) : Option ((Int × cM) ⊕ cO) :=
  if 30 < x1 then
    (h_X4_clear_57 μ).map (fun r => (.inr r))
  else
    (hpa μ 406 x0 x1 0).bind fun μ2 =>
    zlet (zadd x1 1) fun y3 =>
    some (.inl (y3, μ2))
theorem eh_X4_clear_38_b {B : Nat} {τ : zM} {x0 x1 : Int} {μ : cM} (h : cOK B τ μ.2) : hR (Sum.map (fun s => (s.1, cw B s.2)) (hf B)) (Sum.elim (fun s : Int × cM => cOK B τ s.2.2) (hp B τ)) (f_X4_clear_38_b (cad B 4 x0) x1 (cw B μ)) (h_X4_clear_38_b x0 x1 μ) := by
  unfold f_X4_clear_38_b h_X4_clear_38_b
  refine hx_if ?_ ?_
  · exact hx_map (eh_X4_clear_57 h) (fun r => rfl) (fun r q => q)
  · refine he_gA h (f := 406) (c := 4) (o := x0) ⟨rfl, by decide⟩ rfl ?_
    refine he_pa h (f := 406) (o := x0) ⟨⟨rfl, by decide, by decide⟩, rfl⟩ (fun μ2 h => ?_)
    refine hx_let (fun y3 => ?_)
    first | exact hx_some rfl h | exact hx_some rfl trivial
noncomputable def h_X4_clear_38 (x0 x1 : Int) (μ : cM) : Option cO :=
  zloop (fun s : Int × cM => h_X4_clear_38_b x0 s.1 s.2) (x1, μ)
theorem eh_X4_clear_38 {B : Nat} {τ : zM} {x0 x1 : Int} {μ : cM} (h : cOK B τ μ.2) : hR (hf B) (hp B τ) (f_X4_clear_38 (cad B 4 x0) x1 (cw B μ)) (h_X4_clear_38 x0 x1 μ) := by
  unfold f_X4_clear_38 h_X4_clear_38
  refine hx_loop (φ := (fun s => (s.1, cw B s.2))) (Ps := (fun s : Int × cM => cOK B τ s.2.2)) (s := (x1, μ)) h (fun s hs => ?_)
  exact eh_X4_clear_38_b hs
noncomputable def h_X4_clear_36 (x0 : Int) (μ : cM) : Option cO :=
  h_X4_clear_38 x0 0 μ
theorem eh_X4_clear_36 {B : Nat} {τ : zM} {x0 : Int} {μ : cM} (h : cOK B τ μ.2) : hR (hf B) (hp B τ) (f_X4_clear_36 (cad B 4 x0) (cw B μ)) (h_X4_clear_36 x0 μ) := by
  unfold f_X4_clear_36 h_X4_clear_36
  exact (eh_X4_clear_38 h)
noncomputable def h_X4_clear_17_b (x0 x1 : Int) (μ : cM) : Option ((Int × cM) ⊕ cO) :=
  if 8 ≤ x1 then
    (h_X4_clear_36 x0 μ).map (fun r => (.inr r))
  else
    (hpr μ 404 x0 x1 (-1)).bind fun μ2 =>
    zlet (zadd x1 1) fun y3 =>
    some (.inl (y3, μ2))
theorem eh_X4_clear_17_b {B : Nat} {τ : zM} {x0 x1 : Int} {μ : cM} (h : cOK B τ μ.2) : hR (Sum.map (fun s => (s.1, cw B s.2)) (hf B)) (Sum.elim (fun s : Int × cM => cOK B τ s.2.2) (hp B τ)) (f_X4_clear_17_b (cad B 4 x0) x1 (cw B μ)) (h_X4_clear_17_b x0 x1 μ) := by
  unfold f_X4_clear_17_b h_X4_clear_17_b
  refine hx_if ?_ ?_
  · exact hx_map (eh_X4_clear_36 h) (fun r => rfl) (fun r q => q)
  · refine he_gA h (f := 404) (c := 4) (o := x0) ⟨rfl, by decide⟩ rfl ?_
    refine he_pr h (f := 404) (o := x0) ⟨⟨rfl, by decide, by decide⟩, rfl⟩ (fun μ2 h => ?_)
    refine hx_let (fun y3 => ?_)
    first | exact hx_some rfl h | exact hx_some rfl trivial
noncomputable def h_X4_clear_17 (x0 x1 : Int) (μ : cM) : Option cO :=
  zloop (fun s : Int × cM => h_X4_clear_17_b x0 s.1 s.2) (x1, μ)
theorem eh_X4_clear_17 {B : Nat} {τ : zM} {x0 x1 : Int} {μ : cM} (h : cOK B τ μ.2) : hR (hf B) (hp B τ) (f_X4_clear_17 (cad B 4 x0) x1 (cw B μ)) (h_X4_clear_17 x0 x1 μ) := by
  unfold f_X4_clear_17 h_X4_clear_17
  refine hx_loop (φ := (fun s => (s.1, cw B s.2))) (Ps := (fun s : Int × cM => cOK B τ s.2.2)) (s := (x1, μ)) h (fun s hs => ?_)
  exact eh_X4_clear_17_b hs
noncomputable def h_X4_clear (x0 : Int) (μ : cM) : Option cO :=
  hwl (hS μ 400 x0 (-1)) fun μ1 =>
  hwl (hS μ1 401 x0 0) fun μ2 =>
  hwl (hS μ2 403 x0 0) fun μ3 =>
  h_X4_clear_17 x0 0 μ3
theorem eh_X4_clear {B : Nat} {τ : zM} {x0 : Int} {μ : cM} (h : cOK B τ μ.2) : hR (hf B) (hp B τ) (f_X4_clear (cad B 4 x0) (cw B μ)) (h_X4_clear x0 μ) := by
  unfold f_X4_clear h_X4_clear
  refine he_ps h (f := 400) (c := 4) (o := x0) ⟨rfl, by decide, by decide⟩ rfl (fun μ1 h => ?_)
  refine he_ps h (f := 401) (c := 4) (o := x0) ⟨rfl, by decide, by decide⟩ rfl (fun μ2 h => ?_)
  refine he_ps h (f := 403) (c := 4) (o := x0) ⟨rfl, by decide, by decide⟩ rfl (fun μ3 h => ?_)
  exact (eh_X4_clear_17 h)
noncomputable def h_X6_labels_85 (x1 : Int) (μ : cM) : Option cO :=
  some (0, zi x1, μ)
theorem eh_X6_labels_85 {B : Nat} {τ : zM} {x1 : Int} {μ : cM} (h : cOK B τ μ.2) : hR (hf B) (hp B τ) (f_X6_labels_85 x1 (cw B μ)) (h_X6_labels_85 x1 μ) := by
  unfold f_X6_labels_85 h_X6_labels_85
  first | exact hx_some rfl h | exact hx_some rfl trivial
noncomputable def h_X6_labels_48 (x1 x2 t0 : Int) (μ : cM) : Option ((Int × cM) ⊕ cO) :=
  hcvT (h_X5_need t0 μ) (fun n a μ1 => some (.inr (n + 1, zr a, μ1))) fun μ1 =>
  zlet (hG μ1 502 0) fun v2 =>
  hwl (hS μ1 502 0 (zadd v2 1)) fun μ3 =>
  zlet (hG μ3 607 0) fun v4 =>
  (hnn v4).bind fun q1 =>
  zlet (hG μ3 403 v4) fun v5 =>
  hwl (hS μ3 403 v4 (zor v5 (zshl 1 x2))) fun μ6 =>
  zlet ((zor x1 (zshl 1 x2))) fun y7 =>
  some (.inl (y7, μ6))
theorem eh_X6_labels_48 {B : Nat} {τ : zM} {x1 x2 t0 : Int} {μ : cM} (h : cOK B τ μ.2) : hR (Sum.map (fun s => (s.1, cw B s.2)) (hf B)) (Sum.elim (fun s : Int × cM => cOK B τ s.2.2) (hp B τ)) (f_X6_labels_48 (cad B 5 0) x1 x2 t0 (cw B μ)) (h_X6_labels_48 x1 x2 t0 μ) := by
  unfold f_X6_labels_48 h_X6_labels_48
  refine hx_cvT (eh_X5_need h) (fun n a μ1 h => hx_some rfl h) (fun μ1 h => ?_)
  refine he_gs h (f := 502) (c := 5) (o := 0) ⟨rfl, by decide, by decide⟩ rfl (fun v2 => ?_)
  refine he_ps h (f := 502) (c := 5) (o := 0) ⟨rfl, by decide, by decide⟩ rfl (fun μ3 h => ?_)
  refine he_g7 h (fun v4 => ?_)
  refine hx_nnG (fun hn => ?_)
  rw [radr_ne hn]
  refine he_gs h (f := 403) (c := 4) (o := v4) ⟨rfl, by decide, by decide⟩ rfl (fun v5 => ?_)
  refine he_ps h (f := 403) (c := 4) (o := v4) ⟨rfl, by decide, by decide⟩ rfl (fun μ6 h => ?_)
  refine hx_let (fun y7 => ?_)
  first | exact hx_some rfl h | exact hx_some rfl trivial
noncomputable def h_X6_labels_47 (x1 x2 : Int) (μ : cM) : Option ((Int × cM) ⊕ cO) :=
  h_X6_labels_48 x1 x2 0 μ
theorem eh_X6_labels_47 {B : Nat} {τ : zM} {x1 x2 : Int} {μ : cM} (h : cOK B τ μ.2) : hR (Sum.map (fun s => (s.1, cw B s.2)) (hf B)) (Sum.elim (fun s : Int × cM => cOK B τ s.2.2) (hp B τ)) (f_X6_labels_47 (cad B 5 0) x1 x2 (cw B μ)) (h_X6_labels_47 x1 x2 μ) := by
  unfold f_X6_labels_47 h_X6_labels_47
  exact (eh_X6_labels_48 h)
noncomputable def h_X6_labels_2_b (x1 : Int) (μ : cM) : Option ((Int × cM) ⊕ cO) :=
  hci (h_X5_take 0 58 μ) fun v1 μ2 =>
  if v1 = 0 then
    (h_X6_labels_85 x1 μ2).map (fun r => (.inr r))
  else
    hci (h_X5_now 0 μ2) fun v3 μ4 =>
    zlet ((zsub v3 65)) fun y5 =>
    if y5 < 0 then
      h_X6_labels_47 x1 y5 μ4
    else
      if 8 ≤ y5 then
        h_X6_labels_47 x1 y5 μ4
      else
        zlet (hG μ4 607 0) fun v6 =>
        (hnn v6).bind fun q1 =>
        zlet (hG μ4 403 v6) fun v7 =>
        if (zand (zshr v7 y5) 1) ≠ 0 then
          h_X6_labels_47 x1 y5 μ4
        else
          h_X6_labels_48 x1 y5 1 μ4
theorem eh_X6_labels_2_b {B : Nat} {τ : zM} {x1 : Int} {μ : cM} (h : cOK B τ μ.2) : hR (Sum.map (fun s => (s.1, cw B s.2)) (hf B)) (Sum.elim (fun s : Int × cM => cOK B τ s.2.2) (hp B τ)) (f_X6_labels_2_b (cad B 5 0) x1 (cw B μ)) (h_X6_labels_2_b x1 μ) := by
  unfold f_X6_labels_2_b h_X6_labels_2_b
  refine hx_is h ⟨rfl, by decide, by decide⟩ ?_
  refine hx_ci (eh_X5_take h) (fun v1 μ2 h => ?_)
  refine hx_if ?_ ?_
  · exact hx_map (eh_X6_labels_85 h) (fun r => rfl) (fun r q => q)
  · refine hx_is h ⟨rfl, by decide, by decide⟩ ?_
    refine hx_ci (eh_X5_now h) (fun v3 μ4 h => ?_)
    refine hx_let (fun y5 => ?_)
    refine hx_if ?_ ?_
    · exact (eh_X6_labels_47 h)
    · refine hx_if ?_ ?_
      · exact (eh_X6_labels_47 h)
      · refine he_g7 h (fun v6 => ?_)
        refine hx_nnG (fun hn => ?_)
        rw [radr_ne hn]
        refine he_gs h (f := 403) (c := 4) (o := v6) ⟨rfl, by decide, by decide⟩ rfl (fun v7 => ?_)
        refine hx_if ?_ ?_
        · exact (eh_X6_labels_47 h)
        · exact (eh_X6_labels_48 h)
noncomputable def h_X6_labels_2 (x1 : Int) (μ : cM) : Option cO :=
  zloop (fun s : Int × cM => h_X6_labels_2_b s.1 s.2) (x1, μ)
theorem eh_X6_labels_2 {B : Nat} {τ : zM} {x1 : Int} {μ : cM} (h : cOK B τ μ.2) : hR (hf B) (hp B τ) (f_X6_labels_2 (cad B 5 0) x1 (cw B μ)) (h_X6_labels_2 x1 μ) := by
  unfold f_X6_labels_2 h_X6_labels_2
  refine hx_loop (φ := (fun s => (s.1, cw B s.2))) (Ps := (fun s : Int × cM => cOK B τ s.2.2)) (s := (x1, μ)) h (fun s hs => ?_)
  exact eh_X6_labels_2_b hs
noncomputable def h_X6_labels (μ : cM) : Option cO :=
  h_X6_labels_2 0 μ
theorem eh_X6_labels {B : Nat} {τ : zM} {μ : cM} (h : cOK B τ μ.2) : hR (hf B) (hp B τ) (f_X6_labels (cad B 5 0) (cw B μ)) (h_X6_labels  μ) := by
  unfold f_X6_labels h_X6_labels
  exact (eh_X6_labels_2 h)
noncomputable def h_J6_size (x0 : Int) (μ : cM) : Option cO :=
  (zgf μ.2 2202 x0).bind fun v1 =>
  some (0, zi v1, μ)
theorem eh_J6_size {B : Nat} {τ : zM} {x0 : Int} {μ : cM} (h : cOK B τ μ.2) : hR (hf B) (hp B τ) (f_J6_size x0 (cw B μ)) (h_J6_size x0 μ) := by
  unfold f_J6_size h_J6_size
  refine he_gd 2202 rfl (fun v1 => ?_)
  first | exact hx_some rfl h | exact hx_some rfl trivial
noncomputable def h_X11_init (x0 : Int) (μ : cM) : Option cO :=
  zgd (decide (0 ≤ x0)) <|
  some (0, ((3, 0) : zV), μ)
theorem eh_X11_init {B : Nat} {τ : zM} {x0 : Int} {μ : cM} (h : cOK B τ μ.2) : hR (hf B) (hp B τ) (f_X11_init x0 (cw B μ)) (h_X11_init x0 μ) := by
  unfold f_X11_init h_X11_init
  refine hx_gd ?_
  first | exact hx_some rfl h | exact hx_some rfl trivial
noncomputable def h_J13_copyOf_3_24 (x0 x1 t0 : Int) (μ : cM) : Option cO :=
  (zla μ.2 105 x0).bind fun v1 =>
  zlet (if x1 < v1 then x1 else v1) fun y2 =>
  (hup μ (zcp μ.2 105 x0 0 t0 0 y2)).bind fun μ3 =>
  some (0, zr t0, μ3)
theorem eh_J13_copyOf_3_24 {B : Nat} {τ : zM} {x0 x1 t0 : Int} {μ : cM} (h : cOK B τ μ.2) : hR (hf B) (hp B τ) (f_J13_copyOf_3_24 x0 x1 t0 (cw B μ)) (h_J13_copyOf_3_24 x0 x1 t0 μ) := by
  unfold f_J13_copyOf_3_24 h_J13_copyOf_3_24
  refine he_lad (fun v1 => ?_)
  refine hx_let (fun y2 => ?_)
  refine he_cp h (by decide) (fun μ3 h => ?_)
  first | exact hx_some rfl h | exact hx_some rfl trivial
noncomputable def h_J13_copyOf_3 (x0 x1 x2 : Int) (μ : cM) : Option cO :=
  zgd (zq23 x2) <|
  (hup μ (znA μ.2 105 x1)).bind fun μ1 =>
  h_J13_copyOf_3_24 x0 x1 (↑(zN μ.2) : Int) μ1
theorem eh_J13_copyOf_3 {B : Nat} {τ : zM} {x0 x1 x2 : Int} {μ : cM} (h : cOK B τ μ.2) : hR (hf B) (hp B τ) (f_J13_copyOf_3 x0 x1 x2 (cw B μ)) (h_J13_copyOf_3 x0 x1 x2 μ) := by
  unfold f_J13_copyOf_3 h_J13_copyOf_3
  refine hx_gd ?_
  refine he_nA h (fun μ1 h => ?_)
  exact (eh_J13_copyOf_3_24 h)
noncomputable def h_J13_copyOf_2 (x0 x1 : Int) (μ : cM) : Option cO :=
  zgd (zis μ.2 105 x0) <|
  hcr (h_J13_copyOf_3 x0 x1 (-23) μ) fun v1 μ2 =>
  some (0, zr v1, μ2)
theorem eh_J13_copyOf_2 {B : Nat} {τ : zM} {x0 x1 : Int} {μ : cM} (h : cOK B τ μ.2) : hR (hf B) (hp B τ) (f_J13_copyOf_2 x0 x1 (cw B μ)) (h_J13_copyOf_2 x0 x1 μ) := by
  unfold f_J13_copyOf_2 h_J13_copyOf_2
  refine hx_gd ?_
  refine hx_cr (eh_J13_copyOf_3 h) (fun v1 μ2 h => ?_)
  first | exact hx_some rfl h | exact hx_some rfl trivial
noncomputable def h_J6_grow_2_20 (x0 x1 x2 : Int) (μ : cM) : Option cO :=
  hci (h_J11_newLength x2 (zsub x1 x2) (zshr x2 1) μ) fun v1 μ2 =>
  (zgf μ2.2 2201 x0).bind fun v3 =>
  hcr (h_J13_copyOf_2 v3 v1 μ2) fun v4 μ5 =>
  (hup μ5 (zpf μ5.2 2201 x0 v4)).bind fun μ6 =>
  some (0, zr v4, μ6)
theorem eh_J6_grow_2_20 {B : Nat} {τ : zM} {x0 x1 x2 : Int} {μ : cM} (h : cOK B τ μ.2) : hR (hf B) (hp B τ) (f_J6_grow_2_20 x0 x1 x2 (cw B μ)) (h_J6_grow_2_20 x0 x1 x2 μ) := by
  unfold f_J6_grow_2_20 h_J6_grow_2_20
  refine hx_ci (eh_J11_newLength h) (fun v1 μ2 h => ?_)
  refine he_gd 2201 rfl (fun v3 => ?_)
  refine hx_cr (eh_J13_copyOf_2 h) (fun v4 μ5 h => ?_)
  refine he_pd h 2201 ⟨by decide, by decide⟩ rfl (fun μ6 h => ?_)
  first | exact hx_some rfl h | exact hx_some rfl trivial
noncomputable def h_J6_grow_2 (x0 x1 : Int) (μ : cM) : Option cO :=
  (zgf μ.2 2201 x0).bind fun v1 =>
  (zla μ.2 105 v1).bind fun v2 =>
  if 0 < v2 then
    h_J6_grow_2_20 x0 x1 v2 μ
  else
    (zgf μ.2 2201 x0).bind fun v3 =>
    none
theorem eh_J6_grow_2 {B : Nat} {τ : zM} {x0 x1 : Int} {μ : cM} (h : cOK B τ μ.2) : hR (hf B) (hp B τ) (f_J6_grow_2 x0 x1 (cw B μ)) (h_J6_grow_2 x0 x1 μ) := by
  unfold f_J6_grow_2 h_J6_grow_2
  refine he_gd 2201 rfl (fun v1 => ?_)
  refine he_lad (fun v2 => ?_)
  refine hx_if ?_ ?_
  · exact (eh_J6_grow_2_20 h)
  · refine he_gd 2201 rfl (fun v3 => ?_)
    exact hR_none _ _
noncomputable def h_J6_grow (x0 : Int) (μ : cM) : Option cO :=
  (zgf μ.2 2202 x0).bind fun v1 =>
  zgd (zis μ.2 23 x0) <|
  hcr (h_J6_grow_2 x0 (zadd v1 1) μ) fun v2 μ3 =>
  some (0, zr v2, μ3)
theorem eh_J6_grow {B : Nat} {τ : zM} {x0 : Int} {μ : cM} (h : cOK B τ μ.2) : hR (hf B) (hp B τ) (f_J6_grow x0 (cw B μ)) (h_J6_grow x0 μ) := by
  unfold f_J6_grow h_J6_grow
  refine he_gd 2202 rfl (fun v1 => ?_)
  refine hx_gd ?_
  refine hx_cr (eh_J6_grow_2 h) (fun v2 μ3 h => ?_)
  first | exact hx_some rfl h | exact hx_some rfl trivial
noncomputable def h_J6_add_2_11 (x0 x1 x2 x3 : Int) (μ : cM) : Option cO :=
  (hup μ (zpr μ.2 105 x2 x3 x1)).bind fun μ1 =>
  (hup μ1 (zpf μ1.2 2202 x0 (zadd x3 1))).bind fun μ2 =>
  some (0, ((3, 0) : zV), μ2)
theorem eh_J6_add_2_11 {B : Nat} {τ : zM} {x0 x1 x2 x3 : Int} {μ : cM} (h : cOK B τ μ.2) : hR (hf B) (hp B τ) (f_J6_add_2_11 x0 x1 x2 x3 (cw B μ)) (h_J6_add_2_11 x0 x1 x2 x3 μ) := by
  unfold f_J6_add_2_11 h_J6_add_2_11
  refine he_prd h (by decide) (fun μ1 h => ?_)
  refine he_pd h 2202 ⟨by decide, by decide⟩ rfl (fun μ2 h => ?_)
  first | exact hx_some rfl h | exact hx_some rfl trivial
noncomputable def h_J6_add_2 (x0 x1 x2 x3 : Int) (μ : cM) : Option cO :=
  (zla μ.2 105 x2).bind fun v1 =>
  if x3 ≠ v1 then
    h_J6_add_2_11 x0 x1 x2 x3 μ
  else
    zgd (zis μ.2 23 x0) <|
    hcr (h_J6_grow x0 μ) fun v2 μ3 =>
    h_J6_add_2_11 x0 x1 v2 x3 μ3
theorem eh_J6_add_2 {B : Nat} {τ : zM} {x0 x1 x2 x3 : Int} {μ : cM} (h : cOK B τ μ.2) : hR (hf B) (hp B τ) (f_J6_add_2 x0 x1 x2 x3 (cw B μ)) (h_J6_add_2 x0 x1 x2 x3 μ) := by
  unfold f_J6_add_2 h_J6_add_2
  refine he_lad (fun v1 => ?_)
  refine hx_if ?_ ?_
  · exact (eh_J6_add_2_11 h)
  · refine hx_gd ?_
    refine hx_cr (eh_J6_grow h) (fun v2 μ3 h => ?_)
    exact (eh_J6_add_2_11 h)
noncomputable def h_J6_add (x0 x1 : Int) (μ : cM) : Option cO :=
  (zgf μ.2 2200 x0).bind fun v1 =>
  (hup μ (zpf μ.2 2200 x0 (zadd v1 1))).bind fun μ2 =>
  (zgf μ2.2 2201 x0).bind fun v3 =>
  (zgf μ2.2 2202 x0).bind fun v4 =>
  zgd (zis μ2.2 23 x0) <|
  hcv (h_J6_add_2 x0 x1 v3 v4 μ2) fun μ5 =>
  zgd (z01 1) <|
  some (0, zi 1, μ5)
theorem eh_J6_add {B : Nat} {τ : zM} {x0 x1 : Int} {μ : cM} (h : cOK B τ μ.2) : hR (hf B) (hp B τ) (f_J6_add x0 x1 (cw B μ)) (h_J6_add x0 x1 μ) := by
  unfold f_J6_add h_J6_add
  refine he_gd 2200 rfl (fun v1 => ?_)
  refine he_pd h 2200 ⟨by decide, by decide⟩ rfl (fun μ2 h => ?_)
  refine he_gd 2201 rfl (fun v3 => ?_)
  refine he_gd 2202 rfl (fun v4 => ?_)
  refine hx_gd ?_
  refine hx_cv (eh_J6_add_2 h) (fun μ5 h => ?_)
  refine hx_gd ?_
  first | exact hx_some rfl h | exact hx_some rfl trivial
noncomputable def h_J21_checkIndex (x0 x1 : Int) (μ : cM) : Option cO :=
  hci (h_J14_checkIndex x0 x1 (-1) μ) fun v1 μ2 =>
  some (0, zi v1, μ2)
theorem eh_J21_checkIndex {B : Nat} {τ : zM} {x0 x1 : Int} {μ : cM} (h : cOK B τ μ.2) : hR (hf B) (hp B τ) (f_J21_checkIndex x0 x1 (cw B μ)) (h_J21_checkIndex x0 x1 μ) := by
  unfold f_J21_checkIndex h_J21_checkIndex
  refine hx_ci (eh_J14_checkIndex h) (fun v1 μ2 h => ?_)
  first | exact hx_some rfl h | exact hx_some rfl trivial
noncomputable def h_J6_elementData (x0 x1 : Int) (μ : cM) : Option cO :=
  (zgf μ.2 2201 x0).bind fun v1 =>
  (zga μ.2 105 v1 x1).bind fun v2 =>
  some (0, zr v2, μ)
theorem eh_J6_elementData {B : Nat} {τ : zM} {x0 x1 : Int} {μ : cM} (h : cOK B τ μ.2) : hR (hf B) (hp B τ) (f_J6_elementData x0 x1 (cw B μ)) (h_J6_elementData x0 x1 μ) := by
  unfold f_J6_elementData h_J6_elementData
  refine he_gd 2201 rfl (fun v1 => ?_)
  refine he_gad h (by decide) (fun v2 => ?_)
  first | exact hx_some rfl h | exact hx_some rfl trivial
noncomputable def h_J6_get (x0 x1 : Int) (μ : cM) : Option cO :=
  (zgf μ.2 2202 x0).bind fun v1 =>
  hci (h_J21_checkIndex x1 v1 μ) fun v2 μ3 =>
  zgd (zis μ3.2 23 x0) <|
  hcr (h_J6_elementData x0 x1 μ3) fun v4 μ5 =>
  some (0, zr v4, μ5)
theorem eh_J6_get {B : Nat} {τ : zM} {x0 x1 : Int} {μ : cM} (h : cOK B τ μ.2) : hR (hf B) (hp B τ) (f_J6_get x0 x1 (cw B μ)) (h_J6_get x0 x1 μ) := by
  unfold f_J6_get h_J6_get
  refine he_gd 2202 rfl (fun v1 => ?_)
  refine hx_ci (eh_J21_checkIndex h) (fun v2 μ3 h => ?_)
  refine hx_gd ?_
  refine hx_cr (eh_J6_elementData h) (fun v4 μ5 h => ?_)
  first | exact hx_some rfl h | exact hx_some rfl trivial
noncomputable def h_X11_begin (x0 x1 x2 x3 : Int) (μ : cM) : Option cO :=
  (hup μ (zpf μ.2 1100 x0 x1)).bind fun μ1 =>
  (hup μ1 (zpf μ1.2 1106 x0 x2)).bind fun μ2 =>
  (hup μ2 (zpf μ2.2 1102 x0 x3)).bind fun μ3 =>
  (hup μ3 (zpf μ3.2 1101 x0 (-1))).bind fun μ4 =>
  (hup μ4 (zpf μ4.2 1103 x0 (-1))).bind fun μ5 =>
  (hup μ5 (zpf μ5.2 1104 x0 (-1))).bind fun μ6 =>
  (hup μ6 (zpf μ6.2 1105 x0 (-1))).bind fun μ7 =>
  (hup μ7 (zpf μ7.2 1111 x0 (-1))).bind fun μ8 =>
  (hup μ8 (zpf μ8.2 1107 x0 (-1))).bind fun μ9 =>
  (hup μ9 (zpf μ9.2 1108 x0 (-1))).bind fun μ10 =>
  (hup μ10 (zpf μ10.2 1109 x0 (-1))).bind fun μ11 =>
  (hup μ11 (zpf μ11.2 1110 x0 (-1))).bind fun μ12 =>
  some (0, ((3, 0) : zV), μ12)
theorem eh_X11_begin {B : Nat} {τ : zM} {x0 x1 x2 x3 : Int} {μ : cM} (h : cOK B τ μ.2) : hR (hf B) (hp B τ) (f_X11_begin x0 x1 x2 x3 (cw B μ)) (h_X11_begin x0 x1 x2 x3 μ) := by
  unfold f_X11_begin h_X11_begin
  refine he_pd h 1100 ⟨by decide, by decide⟩ rfl (fun μ1 h => ?_)
  refine he_pd h 1106 ⟨by decide, by decide⟩ rfl (fun μ2 h => ?_)
  refine he_pd h 1102 ⟨by decide, by decide⟩ rfl (fun μ3 h => ?_)
  refine he_pd h 1101 ⟨by decide, by decide⟩ rfl (fun μ4 h => ?_)
  refine he_pd h 1103 ⟨by decide, by decide⟩ rfl (fun μ5 h => ?_)
  refine he_pd h 1104 ⟨by decide, by decide⟩ rfl (fun μ6 h => ?_)
  refine he_pd h 1105 ⟨by decide, by decide⟩ rfl (fun μ7 h => ?_)
  refine he_pd h 1111 ⟨by decide, by decide⟩ rfl (fun μ8 h => ?_)
  refine he_pd h 1107 ⟨by decide, by decide⟩ rfl (fun μ9 h => ?_)
  refine he_pd h 1108 ⟨by decide, by decide⟩ rfl (fun μ10 h => ?_)
  refine he_pd h 1109 ⟨by decide, by decide⟩ rfl (fun μ11 h => ?_)
  refine he_pd h 1110 ⟨by decide, by decide⟩ rfl (fun μ12 h => ?_)
  first | exact hx_some rfl h | exact hx_some rfl trivial
noncomputable def h_X6_fresh_29 (x1 x2 : Int) (μ : cM) : Option cO :=
  zlet (hG μ 605 0) fun v1 =>
  zlet (hG μ 606 0) fun v2 =>
  zgd (zis μ.2 23 v1) <|
  hcr (h_J6_get v1 v2 μ) fun v3 μ4 =>
  zgd (zis μ4.2 12 v3) <|
  zlet (hG μ4 606 0) fun v5 =>
  hwl (hS μ4 606 0 (zadd v5 1)) fun μ6 =>
  zlet (hG μ6 502 0) fun v7 =>
  zgd (zis μ6.2 12 v3) <|
  hcv (h_X11_begin v3 x1 v7 x2 μ6) fun μ8 =>
  some (0, zr v3, μ8)
theorem eh_X6_fresh_29 {B : Nat} {τ : zM} {x1 x2 : Int} {μ : cM} (h : cOK B τ μ.2) : hR (hf B) (hp B τ) (f_X6_fresh_29 (cad B 5 0) x1 x2 (cw B μ)) (h_X6_fresh_29 x1 x2 μ) := by
  unfold f_X6_fresh_29 h_X6_fresh_29
  refine he_gs h (f := 605) (c := 5) (o := 0) ⟨rfl, by decide, by decide⟩ rfl (fun v1 => ?_)
  refine he_gs h (f := 606) (c := 5) (o := 0) ⟨rfl, by decide, by decide⟩ rfl (fun v2 => ?_)
  refine hx_gd ?_
  refine hx_cr (eh_J6_get h) (fun v3 μ4 h => ?_)
  refine hx_gd ?_
  refine he_gs h (f := 606) (c := 5) (o := 0) ⟨rfl, by decide, by decide⟩ rfl (fun v5 => ?_)
  refine he_ps h (f := 606) (c := 5) (o := 0) ⟨rfl, by decide, by decide⟩ rfl (fun μ6 h => ?_)
  refine he_gs h (f := 502) (c := 5) (o := 0) ⟨rfl, by decide, by decide⟩ rfl (fun v7 => ?_)
  refine hx_gd ?_
  refine hx_cv (eh_X11_begin h) (fun μ8 h => ?_)
  first | exact hx_some rfl h | exact hx_some rfl trivial
noncomputable def h_X6_fresh (x1 x2 : Int) (μ : cM) : Option cO :=
  zlet (hG μ 606 0) fun v1 =>
  zlet (hG μ 605 0) fun v2 =>
  zgd (zis μ.2 23 v2) <|
  hci (h_J6_size v2 μ) fun v3 μ4 =>
  if v1 ≠ v3 then
    h_X6_fresh_29 x1 x2 μ4
  else
    zlet (hG μ4 605 0) fun v5 =>
    (hup μ4 (znO μ4.2 11 12)).bind fun μ6 =>
    zlet ((↑(zN μ4.2) : Int)) fun y7 =>
    zgd (decide (0 ≤ y7)) <|
    hcv (h_X11_init y7 μ6) fun μ8 =>
    zgd (zis μ8.2 23 v5) <|
    hci (h_J6_add v5 y7 μ8) fun v9 μ10 =>
    h_X6_fresh_29 x1 x2 μ10
theorem eh_X6_fresh {B : Nat} {τ : zM} {x1 x2 : Int} {μ : cM} (h : cOK B τ μ.2) : hR (hf B) (hp B τ) (f_X6_fresh (cad B 5 0) x1 x2 (cw B μ)) (h_X6_fresh x1 x2 μ) := by
  unfold f_X6_fresh h_X6_fresh
  refine he_gs h (f := 606) (c := 5) (o := 0) ⟨rfl, by decide, by decide⟩ rfl (fun v1 => ?_)
  refine he_gs h (f := 605) (c := 5) (o := 0) ⟨rfl, by decide, by decide⟩ rfl (fun v2 => ?_)
  refine hx_gd ?_
  refine hx_ci (eh_J6_size h) (fun v3 μ4 h => ?_)
  refine hx_if ?_ ?_
  · exact (eh_X6_fresh_29 h)
  · refine he_gs h (f := 605) (c := 5) (o := 0) ⟨rfl, by decide, by decide⟩ rfl (fun v5 => ?_)
    refine he_nO h (fun μ6 h => ?_)
    refine hx_let (fun y7 => ?_)
    refine hx_gd ?_
    refine hx_cv (eh_X11_init h) (fun μ8 h => ?_)
    refine hx_gd ?_
    refine hx_ci (eh_J6_add h) (fun v9 μ10 h => ?_)
    exact (eh_X6_fresh_29 h)
noncomputable def h_X6_tally_17 (x1 t0 : Int) (μ : cM) : Option cO :=
  hcvT (h_X5_need t0 μ) (fun n a μ1 => some (n + 1, zr a, μ1)) fun μ1 =>
  zlet (hG μ1 607 0) fun v2 =>
  (hnn v2).bind fun q1 =>
  zlet (hG μ1 401 v2) fun v3 =>
  (hup μ1 (zpf μ1.2 1110 x1 v3)).bind fun μ4 =>
  zlet (hG μ4 607 0) fun v5 =>
  (hnn v5).bind fun q2 =>
  zlet (hG μ4 401 v5) fun v6 =>
  hwl (hS μ4 401 v5 (zadd v6 1)) fun μ7 =>
  some (0, ((3, 0) : zV), μ7)
theorem eh_X6_tally_17 {B : Nat} {τ : zM} {x1 t0 : Int} {μ : cM} (h : cOK B τ μ.2) : hR (hf B) (hp B τ) (f_X6_tally_17 (cad B 5 0) x1 t0 (cw B μ)) (h_X6_tally_17 x1 t0 μ) := by
  unfold f_X6_tally_17 h_X6_tally_17
  refine hx_cvT (eh_X5_need h) (fun n a μ1 h => hx_some rfl h) (fun μ1 h => ?_)
  refine he_g7 h (fun v2 => ?_)
  refine hx_nnG (fun hn => ?_)
  rw [radr_ne hn]
  refine he_gs h (f := 401) (c := 4) (o := v2) ⟨rfl, by decide, by decide⟩ rfl (fun v3 => ?_)
  refine he_pd h 1110 ⟨by decide, by decide⟩ rfl (fun μ4 h => ?_)
  refine he_g7 h (fun v5 => ?_)
  refine hx_nnG (fun hn => ?_)
  rw [radr_ne hn]
  refine he_gs h (f := 401) (c := 4) (o := v5) ⟨rfl, by decide, by decide⟩ rfl (fun v6 => ?_)
  refine he_ps h (f := 401) (c := 4) (o := v5) ⟨rfl, by decide, by decide⟩ rfl (fun μ7 h => ?_)
  first | exact hx_some rfl h | exact hx_some rfl trivial
noncomputable def h_X6_tally (x1 : Int) (μ : cM) : Option cO :=
  zlet (hG μ 607 0) fun v1 =>
  (hnn v1).bind fun q1 =>
  zlet (hG μ 401 v1) fun v2 =>
  if 30 ≤ v2 then
    h_X6_tally_17 x1 0 μ
  else
    h_X6_tally_17 x1 1 μ
theorem eh_X6_tally {B : Nat} {τ : zM} {x1 : Int} {μ : cM} (h : cOK B τ μ.2) : hR (hf B) (hp B τ) (f_X6_tally (cad B 5 0) x1 (cw B μ)) (h_X6_tally x1 μ) := by
  unfold f_X6_tally h_X6_tally
  refine he_g7 h (fun v1 => ?_)
  refine hx_nnG (fun hn => ?_)
  rw [radr_ne hn]
  refine he_gs h (f := 401) (c := 4) (o := v1) ⟨rfl, by decide, by decide⟩ rfl (fun v2 => ?_)
  refine hx_if ?_ ?_
  · exact (eh_X6_tally_17 h)
  · exact (eh_X6_tally_17 h)
noncomputable def h_X11_around_25 (x2 : Int) (μ : cM) : Option cO :=
  some (0, zr x2, μ)
theorem eh_X11_around_25 {B : Nat} {τ : zM} {x2 : Int} {μ : cM} (h : cOK B τ μ.2) : hR (hf B) (hp B τ) (f_X11_around_25 x2 (cw B μ)) (h_X11_around_25 x2 μ) := by
  unfold f_X11_around_25 h_X11_around_25
  first | exact hx_some rfl h | exact hx_some rfl trivial
noncomputable def h_X11_around_5_b (x1 x2 : Int) (μ : cM) : Option ((Int) ⊕ cO) :=
  if x2 = (-1) then
    (h_X11_around_25 x2 μ).map (fun r => (.inr r))
  else
    (zgf μ.2 1100 x2).bind fun v1 =>
    if v1 = x1 then
      (h_X11_around_25 x2 μ).map (fun r => (.inr r))
    else
      (zgf μ.2 1102 x2).bind fun v2 =>
      some (.inl v2)
theorem eh_X11_around_5_b {B : Nat} {τ : zM} {x1 x2 : Int} {μ : cM} (h : cOK B τ μ.2) : hR (Sum.map id (hf B)) (Sum.elim (fun _ : Int => True) (hp B τ)) (f_X11_around_5_b x1 x2 (cw B μ)) (h_X11_around_5_b x1 x2 μ) := by
  unfold f_X11_around_5_b h_X11_around_5_b
  refine hx_if ?_ ?_
  · exact hx_map (eh_X11_around_25 h) (fun r => rfl) (fun r q => q)
  · refine he_gd 1100 rfl (fun v1 => ?_)
    refine hx_if ?_ ?_
    · exact hx_map (eh_X11_around_25 h) (fun r => rfl) (fun r q => q)
    · refine he_gd 1102 rfl (fun v2 => ?_)
      first | exact hx_some rfl h | exact hx_some rfl trivial
noncomputable def h_X11_around_5 (x1 x2 : Int) (μ : cM) : Option cO :=
  zloop (fun s : Int => h_X11_around_5_b x1 s μ) x2
theorem eh_X11_around_5 {B : Nat} {τ : zM} {x1 x2 : Int} {μ : cM} (h : cOK B τ μ.2) : hR (hf B) (hp B τ) (f_X11_around_5 x1 x2 (cw B μ)) (h_X11_around_5 x1 x2 μ) := by
  unfold f_X11_around_5 h_X11_around_5
  refine hx_loop (φ := id) (Ps := (fun _ : Int => True)) (s := x2) trivial (fun s hs => ?_)
  exact eh_X11_around_5_b h
noncomputable def h_X11_around (x0 x1 : Int) (μ : cM) : Option cO :=
  (zgf μ.2 1102 x0).bind fun v1 =>
  h_X11_around_5 x1 v1 μ
theorem eh_X11_around {B : Nat} {τ : zM} {x0 x1 : Int} {μ : cM} (h : cOK B τ μ.2) : hR (hf B) (hp B τ) (f_X11_around x0 x1 (cw B μ)) (h_X11_around x0 x1 μ) := by
  unfold f_X11_around h_X11_around
  refine he_gd 1102 rfl (fun v1 => ?_)
  exact (eh_X11_around_5 h)
noncomputable def h_X6_leap_100 (x3 : Int) (μ : cM) : Option cO :=
  some (0, zr x3, μ)
theorem eh_X6_leap_100 {B : Nat} {τ : zM} {x3 : Int} {μ : cM} (h : cOK B τ μ.2) : hR (hf B) (hp B τ) (f_X6_leap_100 x3 (cw B μ)) (h_X6_leap_100 x3 μ) := by
  unfold f_X6_leap_100 h_X6_leap_100
  first | exact hx_some rfl h | exact hx_some rfl trivial
noncomputable def h_X6_leap_65 (x3 t0 : Int) (μ : cM) : Option cO :=
  hcvT (h_X5_need t0 μ) (fun n a μ1 => some (n + 1, zr a, μ1)) fun μ1 =>
  zlet (hG μ1 502 0) fun v2 =>
  hwl (hS μ1 502 0 (zadd v2 1)) fun μ3 =>
  (zgf μ3.2 1100 x3).bind fun v4 =>
  if v4 ≠ (-12) then
    h_X6_leap_100 x3 μ3
  else
    hciT (h_X5_letter 0 65 8 μ3) (fun n a μ6 => some (n + 1, zr a, μ6)) fun v5 μ6 =>
    (hup μ6 (zpf μ6.2 1107 x3 v5)).bind fun μ7 =>
    h_X6_leap_100 x3 μ7
theorem eh_X6_leap_65 {B : Nat} {τ : zM} {x3 t0 : Int} {μ : cM} (h : cOK B τ μ.2) : hR (hf B) (hp B τ) (f_X6_leap_65 (cad B 5 0) x3 t0 (cw B μ)) (h_X6_leap_65 x3 t0 μ) := by
  unfold f_X6_leap_65 h_X6_leap_65
  refine hx_cvT (eh_X5_need h) (fun n a μ1 h => hx_some rfl h) (fun μ1 h => ?_)
  refine he_gs h (f := 502) (c := 5) (o := 0) ⟨rfl, by decide, by decide⟩ rfl (fun v2 => ?_)
  refine he_ps h (f := 502) (c := 5) (o := 0) ⟨rfl, by decide, by decide⟩ rfl (fun μ3 h => ?_)
  refine he_gd 1100 rfl (fun v4 => ?_)
  refine hx_if ?_ ?_
  · exact (eh_X6_leap_100 h)
  · refine hx_is h ⟨rfl, by decide, by decide⟩ ?_
    refine hx_ciT (eh_X5_letter h) (fun n a μ6 h => hx_some rfl h) (fun v5 μ6 h => ?_)
    refine he_pd h 1107 ⟨by decide, by decide⟩ rfl (fun μ7 h => ?_)
    exact (eh_X6_leap_100 h)
noncomputable def h_X6_leap_60 (x3 : Int) (μ : cM) : Option cO :=
  h_X6_leap_65 x3 1 μ
theorem eh_X6_leap_60 {B : Nat} {τ : zM} {x3 : Int} {μ : cM} (h : cOK B τ μ.2) : hR (hf B) (hp B τ) (f_X6_leap_60 (cad B 5 0) x3 (cw B μ)) (h_X6_leap_60 x3 μ) := by
  unfold f_X6_leap_60 h_X6_leap_60
  exact (eh_X6_leap_65 h)
noncomputable def h_X6_leap_35 (x1 t0 : Int) (μ : cM) : Option cO :=
  hcr (h_X6_fresh t0 x1 μ) fun v1 μ2 =>
  (zgf μ2.2 1100 v1).bind fun v3 =>
  if v3 = (-12) then
    h_X6_leap_60 v1 μ2
  else
    zgd (zis μ2.2 12 v1) <|
    hcr (h_X11_around v1 (-9) μ2) fun v4 μ5 =>
    if v4 = (-1) then
      h_X6_leap_65 v1 0 μ5
    else
      h_X6_leap_60 v1 μ5
theorem eh_X6_leap_35 {B : Nat} {τ : zM} {x1 t0 : Int} {μ : cM} (h : cOK B τ μ.2) : hR (hf B) (hp B τ) (f_X6_leap_35 (cad B 5 0) x1 t0 (cad B 5 0) (cw B μ)) (h_X6_leap_35 x1 t0 μ) := by
  unfold f_X6_leap_35 h_X6_leap_35
  refine hx_is h ⟨rfl, by decide, by decide⟩ ?_
  refine hx_cr (eh_X6_fresh h) (fun v1 μ2 h => ?_)
  refine he_gd 1100 rfl (fun v3 => ?_)
  refine hx_if ?_ ?_
  · exact (eh_X6_leap_60 h)
  · refine hx_gd ?_
    refine hx_cr (eh_X11_around h) (fun v4 μ5 h => ?_)
    refine hx_if ?_ ?_
    · exact (eh_X6_leap_65 h)
    · exact (eh_X6_leap_60 h)
noncomputable def h_X6_leap_13 (x1 t0 : Int) (μ : cM) : Option cO :=
  hcvT (h_X5_need t0 μ) (fun n a μ1 => some (n + 1, zr a, μ1)) fun μ1 =>
  hci (h_X5_now 0 μ1) fun v2 μ3 =>
  if v2 ≠ 46 then
    h_X6_leap_35 x1 (-12) μ3
  else
    h_X6_leap_35 x1 (-11) μ3
theorem eh_X6_leap_13 {B : Nat} {τ : zM} {x1 t0 : Int} {μ : cM} (h : cOK B τ μ.2) : hR (hf B) (hp B τ) (f_X6_leap_13 (cad B 5 0) x1 t0 (cw B μ)) (h_X6_leap_13 x1 t0 μ) := by
  unfold f_X6_leap_13 h_X6_leap_13
  refine hx_cvT (eh_X5_need h) (fun n a μ1 h => hx_some rfl h) (fun μ1 h => ?_)
  refine hx_is h ⟨rfl, by decide, by decide⟩ ?_
  refine hx_ci (eh_X5_now h) (fun v2 μ3 h => ?_)
  refine hx_if ?_ ?_
  · exact (eh_X6_leap_35 h)
  · exact (eh_X6_leap_35 h)
noncomputable def h_X6_leap_8 (x1 : Int) (μ : cM) : Option cO :=
  h_X6_leap_13 x1 1 μ
theorem eh_X6_leap_8 {B : Nat} {τ : zM} {x1 : Int} {μ : cM} (h : cOK B τ μ.2) : hR (hf B) (hp B τ) (f_X6_leap_8 (cad B 5 0) x1 (cw B μ)) (h_X6_leap_8 x1 μ) := by
  unfold f_X6_leap_8 h_X6_leap_8
  exact (eh_X6_leap_13 h)
noncomputable def h_X6_leap (x1 x2 : Int) (μ : cM) : Option cO :=
  if x1 = (-1) then
    h_X6_leap_8 x1 μ
  else
    if x2 ≠ 0 then
      h_X6_leap_13 x1 0 μ
    else
      h_X6_leap_8 x1 μ
theorem eh_X6_leap {B : Nat} {τ : zM} {x1 x2 : Int} {μ : cM} (h : cOK B τ μ.2) : hR (hf B) (hp B τ) (f_X6_leap (cad B 5 0) x1 x2 (cw B μ)) (h_X6_leap x1 x2 μ) := by
  unfold f_X6_leap h_X6_leap
  refine hx_if ?_ ?_
  · exact (eh_X6_leap_8 h)
  · refine hx_if ?_ ?_
    · exact (eh_X6_leap_13 h)
    · exact (eh_X6_leap_8 h)
noncomputable def h_J22_init (x0 : Int) (μ : cM) : Option cO :=
  zgd (decide (0 ≤ x0)) <|
  some (0, ((3, 0) : zV), μ)
theorem eh_J22_init {B : Nat} {τ : zM} {x0 : Int} {μ : cM} (h : cOK B τ μ.2) : hR (hf B) (hp B τ) (f_J22_init x0 (cw B μ)) (h_J22_init x0 μ) := by
  unfold f_J22_init h_J22_init
  refine hx_gd ?_
  first | exact hx_some rfl h | exact hx_some rfl trivial

set_option maxRecDepth 100000
noncomputable def t_X9_truth_56 (x1 t0 : Int) (V : zW) : Option (Int × zW) :=
  twl (us V 900 t0) fun V1 =>
  zlet (V1.1 900) fun v2 =>
  if v2 ≤ 0 then
    t_X9_truth_72 x1 0 0 V1
  else
    zgd (z01 0) <|
    some (0, V1)
theorem e_X9_truth_56 {σ : zM} {m : Nat} (h : tOK m σ) {x1 t0 : Int} {V : zW} : tR (tfi σ m) (f_X9_truth_56 (m : Int) x1 t0 (m : Int) (tw σ m V)) (t_X9_truth_56 x1 t0 V) := by
  unfold f_X9_truth_56 t_X9_truth_56
  refine te_ps h rfl (fun V1 => ?_)
  refine te_gs h rfl (fun v2 => ?_)
  refine te_if ?_ ?_
  · exact (e_X9_truth_72 h)
  · refine te_gd ?_
    exact te_some rfl
noncomputable def t_X9_truth_15 (x1 : Int) (V : zW) : Option (Int × zW) :=
  t_X9_truth_56 x1 1 V
theorem e_X9_truth_15 {σ : zM} {m : Nat} (h : tOK m σ) {x1 : Int} {V : zW} : tR (tfi σ m) (f_X9_truth_15 (m : Int) x1 (m : Int) (tw σ m V)) (t_X9_truth_15 x1 V) := by
  unfold f_X9_truth_15 t_X9_truth_15
  exact (e_X9_truth_56 h)
noncomputable def t_X9_truth_51 (x1 : Int) (V : zW) : Option (Int × zW) :=
  t_X9_truth_56 x1 2 V
theorem e_X9_truth_51 {σ : zM} {m : Nat} (h : tOK m σ) {x1 : Int} {V : zW} : tR (tfi σ m) (f_X9_truth_51 (m : Int) x1 (m : Int) (tw σ m V)) (t_X9_truth_51 x1 V) := by
  unfold f_X9_truth_51 t_X9_truth_51
  exact (e_X9_truth_56 h)
noncomputable def t_X9_truth (x1 : Int) (V : zW) : Option (Int × zW) :=
  zlet (V.1 982) fun v1 =>
  if v1 < 0 then
    t_X9_truth_15 x1 V
  else
    zlet (V.1 961) fun v2 =>
    if v2 ≠ 0 then
      zlet (V.1 982) fun v3 =>
      tci (t_X9_in x1 0 (zsub v3 1) V) fun v4 V5 =>
      if v4 = 0 then
        t_X9_truth_51 x1 V5
      else
        (tga V5 983 x1).bind fun v7 =>
        zlet (V5.1 982) fun v9 =>
        (tga V5 983 v9).bind fun v10 =>
        if v7 = v10 then
          t_X9_truth_56 x1 0 V5
        else
          t_X9_truth_51 x1 V5
    else
      t_X9_truth_15 x1 V
theorem e_X9_truth {σ : zM} {m : Nat} (h : tOK m σ) {x1 : Int} {V : zW} : tR (tfi σ m) (f_X9_truth (m : Int) x1 (tw σ m V)) (t_X9_truth x1 V) := by
  unfold f_X9_truth t_X9_truth
  refine te_gs h rfl (fun v1 => ?_)
  refine te_if ?_ ?_
  · exact (e_X9_truth_15 h)
  · refine te_gs h rfl (fun v2 => ?_)
    refine te_if ?_ ?_
    · refine te_gs h rfl (fun v3 => ?_)
      refine te_ci (e_X9_in h) (fun v4 V5 => ?_)
      refine te_if ?_ ?_
      · exact (e_X9_truth_51 h)
      · refine te_gr h (f := 983) rfl ?_
        refine te_ga h rfl (fun v7 => ?_)
        refine te_gr h (f := 983) rfl ?_
        refine te_gs h rfl (fun v9 => ?_)
        refine te_ga h rfl (fun v10 => ?_)
        refine te_if ?_ ?_
        · exact (e_X9_truth_56 h)
        · exact (e_X9_truth_51 h)
    · exact (e_X9_truth_15 h)
noncomputable def t_X9_count_66 (t0 : Int) (V : zW) : Option (Int × zW) :=
  some (t0, V)
theorem e_X9_count_66 {σ : zM} {m : Nat} (h : tOK m σ) {t0 : Int} {V : zW} : tR (tfi σ m) (f_X9_count_66 t0 (tw σ m V)) (t_X9_count_66 t0 V) := by
  unfold f_X9_count_66 t_X9_count_66
  exact te_some rfl
noncomputable def t_X9_count (x1 : Int) (V : zW) : Option (Int × zW) :=
  twl (us V 900 0) fun V1 =>
  tci (t_X9_in x1 0 3 V1) fun v2 V3 =>
  if v2 ≠ 0 then
    zlet (V3.1 906) fun v4 =>
    if v4 ≠ 0 then
      if x1 ≠ 0 then
        if x1 ≠ 1 then
          if x1 ≠ 2 then
            zlet (V3.1 930) fun v5 =>
            t_X9_count_66 v5 V3
          else
            zlet (V3.1 927) fun v6 =>
            t_X9_count_66 v6 V3
        else
          zlet (V3.1 945) fun v7 =>
          t_X9_count_66 v7 V3
      else
        zlet (V3.1 944) fun v8 =>
        t_X9_count_66 v8 V3
    else
      t_X9_count_66 0 V3
  else
    some ((-1), V3)
theorem e_X9_count {σ : zM} {m : Nat} (h : tOK m σ) {x1 : Int} {V : zW} : tR (tfi σ m) (f_X9_count (m : Int) x1 (tw σ m V)) (t_X9_count x1 V) := by
  unfold f_X9_count t_X9_count
  refine te_ps h rfl (fun V1 => ?_)
  refine te_ci (e_X9_in h) (fun v2 V3 => ?_)
  refine te_if ?_ ?_
  · refine te_gs h rfl (fun v4 => ?_)
    refine te_if ?_ ?_
    · refine te_if ?_ ?_
      · refine te_if ?_ ?_
        · refine te_if ?_ ?_
          · refine te_gs h rfl (fun v5 => ?_)
            exact (e_X9_count_66 h)
          · refine te_gs h rfl (fun v6 => ?_)
            exact (e_X9_count_66 h)
        · refine te_gs h rfl (fun v7 => ?_)
          exact (e_X9_count_66 h)
      · refine te_gs h rfl (fun v8 => ?_)
        exact (e_X9_count_66 h)
    · exact (e_X9_count_66 h)
  · exact te_some rfl

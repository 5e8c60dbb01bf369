set_option maxRecDepth 100000
/-! a text is taken: toString, setLength; length and charAt -/
theorem nO_ok {σ : zM} {ci n : Nat} (h2 : zN σ + 1 ≤ zE σ) (h3 : zU σ + n ≤ 7287785) : znO σ ci n = some (fun f a => if a = zN σ then zdef (zft f) else zF σ f a, zA σ, fun a => if a = zN σ then (ci + 1, 0) else zK σ a, zN σ + 1, zU σ + n, zE σ) := by
  unfold znO
  rw [if_pos ⟨h2, h3⟩]
theorem copyR {a n cap : Nat} {μ : cM} (h : zK μ.2 a = (104, cap)) (hm : n ≤ cap) (hm2 : cap ≤ 600) (h2 : zN μ.2 + 1 ≤ zE μ.2) (h3 : zU μ.2 + n ≤ 7287785) (ha : a < zN μ.2) : ∃ σ', h_J13_copyOfRange (a : Int) 0 (n : Int) μ = some (0, zr (zN μ.2), (μ.1, σ')) ∧ zF σ' = zF μ.2 ∧ (∀ x, zK σ' x = if x = zN μ.2 then (104, n) else zK μ.2 x) ∧ zN σ' = zN μ.2 + 1 ∧ zU σ' = zU μ.2 + n ∧ zE σ' = zE μ.2 ∧ (∀ x, x ≠ zN μ.2 → zA σ' x = zA μ.2 x) ∧ ∀ i, i < n → zA σ' (zN μ.2) i = zA μ.2 a i := by
  unfold h_J13_copyOfRange h_J13_copyOfRange_10 h_J13_copyOfRangeByte h_J13_checkLength
  rw [if_neg (by simp), la_ok h, Option.bind_some]
  by_cases hn : n = cap
  · subst hn
    rw [if_pos rfl]
    have e : zcln μ.2 (a : Int) = some (zF μ.2, fun a' i => if a' = zN μ.2 then zA μ.2 a i else zA μ.2 a' i, fun a' => if a' = zN μ.2 then (104, n) else zK μ.2 a', zN μ.2 + 1, zU μ.2 + n, zE μ.2) := by
      unfold zcln
      rw [Int.toNat_natCast, h, if_pos ⟨Int.natCast_nonneg _, rfl, h2, h3⟩]
    rw [e, hup_s, Option.bind_some]
    simp only [zlet]
    rw [gdT (is_ok (n := n) (if_pos rfl))]
    refine ⟨_, rfl, rfl, fun x => rfl, rfl, rfl, rfl, fun x hx => ?_, fun i hi => ?_⟩
    · funext i
      exact if_neg hx
    · exact if_pos rfl
  · rw [if_neg (by omega), if_pos (by omega), hcv_v]
    have e1 : zsub (n : Int) 0 = n := by rw [zsub_ok] <;> omega
    have e2 : zsub (cap : Int) 0 = cap := by rw [zsub_ok] <;> omega
    simp only [zlet, e1]
    rw [nA_ok (by omega) h2 h3, hup_s, Option.bind_some]
    have hk : zK ((zF μ.2, fun a i => if a = zN μ.2 then zdef (zaty 104) else zA μ.2 a i, fun a => if a = zN μ.2 then (104, n) else zK μ.2 a, zN μ.2 + 1, zU μ.2 + n, zE μ.2) : zM) a = (104, cap) := by
      show (if a = zN μ.2 then _ else _) = _
      rw [if_neg (by omega)]; exact h
    have hk2 : zK ((zF μ.2, fun a i => if a = zN μ.2 then zdef (zaty 104) else zA μ.2 a i, fun a => if a = zN μ.2 then (104, n) else zK μ.2 a, zN μ.2 + 1, zU μ.2 + n, zE μ.2) : zM) (zN μ.2) = (104, n) := if_pos rfl
    rw [la_ok hk, Option.bind_some, e2, if_pos (by omega)]
    rw [zcpT (by
      refine ⟨⟨Int.natCast_nonneg _, Int.natCast_nonneg _, ?_, ?_⟩, ⟨by omega, by omega, by omega, ?_, ?_⟩, fun q => by omega⟩
      · rw [Int.toNat_natCast, hk]
      · rw [Int.toNat_natCast, hk2]
      · rw [Int.toNat_natCast, hk]; omega
      · rw [Int.toNat_natCast, hk2]; omega), hup_s, Option.bind_some, hcr_r]
    refine ⟨_, rfl, rfl, fun x => rfl, rfl, rfl, rfl, fun x hx => ?_, fun i hi => ?_⟩
    · funext i
      show (if x = _ then _ else (if x = zN μ.2 then _ else _)) = _
      rw [Int.toNat_natCast, if_neg hx, if_neg hx]
    · show (if zN μ.2 = _ then va_cpy _ _ _ _ _ i else _) = _
      rw [Int.toNat_natCast, Int.toNat_natCast, if_pos rfl]
      show (if _ then _ else _) = _
      rw [if_pos ⟨Nat.zero_le _, by show i < 0 + (n : Int).toNat; omega⟩]
      show (if a = zN μ.2 then _ else zA μ.2 a (0 + (i - 0))) = _
      rw [if_neg (by omega)]
      congr 1
      omega
theorem toStr {b n va cap : Nat} {c : Nat → Int} {μ : cM} (h : SBx μ.2 b n c va cap) (hn : n ≤ 240) (hc : ∀ i, i < n → 0 ≤ c i ∧ c i < 128) (hb : b < zN μ.2) (hv : va < zN μ.2) (h2 : zN μ.2 + 2 ≤ zE μ.2) (h3 : zU μ.2 + 300 ≤ 7287785) :
    ∃ σ', h_J1_toString (b : Int) μ = some (0, zr (zN μ.2), (μ.1, σ')) ∧ isSt σ' (zN μ.2) n c ∧ SBx σ' b n c va cap ∧ zN σ' = zN μ.2 + 2 ∧ dF (fun _ => False) μ.2 σ' 2 300 := by
  have hs := h
  obtain ⟨k1, k2, k3, k4, k5, k6, k7, k8⟩ := h
  unfold h_J1_toString h_J2_init h_J2_init_2 h_J0_getValue h_J2_init_2_97
  rw [nO_ok (by omega) (by omega), hup_s, Option.bind_some]
  simp only [zlet]
  rw [gdT (by simp), gdT (by simp), gdT (by simp)]
  generalize hs1 : ((fun f a => if a = zN μ.2 then zdef (zft f) else zF μ.2 f a, zA μ.2, fun a => if a = zN μ.2 then (21 + 1, 0) else zK μ.2 a, zN μ.2 + 1, zU μ.2 + 4, zE μ.2) : zM) = s1
  have hK1 : ∀ x, zK s1 x = if x = zN μ.2 then (22, 0) else zK μ.2 x := by rw [← hs1]; intro x; rfl
  have hF1 : ∀ f x, zF s1 f x = if x = zN μ.2 then zdef (zft f) else zF μ.2 f x := by rw [← hs1]; intro f x; rfl
  have hA1 : zA s1 = zA μ.2 := by rw [← hs1]
  have hN1 : zN s1 = zN μ.2 + 1 := by rw [← hs1]
  have hU1 : zU s1 = zU μ.2 + 4 := by rw [← hs1]
  have hE1 : zE s1 = zE μ.2 := by rw [← hs1]
  have sb1 : SBx s1 b n c va cap := ⟨by rw [hK1, if_neg (by omega)]; exact k1, by rw [hF1, if_neg (by omega)]; exact k2, by rw [hF1, if_neg (by omega)]; exact k3, by rw [hF1, if_neg (by omega)]; exact k4, by rw [hK1, if_neg (by omega)]; exact k5, k6, k7, by rw [hA1]; exact k8⟩
  obtain ⟨j1, j2, j3, j4, j5, j6, j7, j8⟩ := sb1
  have g0 : zgf s1 2000 (b : Int) = some (va : Int) := by rw [gf_ok (by rw [j1]; rfl), j2]
  rw [gdT (is_ok j1), g0, Option.bind_some, hcr_r, gdT (is_ok j1), sb_len (μ := (μ.1, s1)) ⟨va, cap, j1, j2, j3, j4, j5, j6, j7, j8⟩, hci_i, gdT (is_ok j1), isL1 (by rw [j1]; rfl) j3, hci_i, if_neg (by decide), gdT (by decide)]
  have hkS : zK s1 (zN μ.2) = (22, 0) := by rw [hK1, if_pos rfl]
  rw [pf_ok (by rw [hkS]; rfl), hup_s, Option.bind_some]
  obtain ⟨s2, q0, q1, q2, q3, q4, q5, q6, q7⟩ := copyR (μ := (μ.1, zsF s1 2101 (zN μ.2) 0)) (a := va) (n := n) (cap := cap) j5 j6 j7 (by show zN s1 + 1 ≤ zE s1; omega) (by show zU s1 + n ≤ _; omega) (by show va < zN s1; omega)
  rw [q0, hcr_r]
  have hN2 : zN (zsF s1 2101 (zN μ.2) 0) = zN μ.2 + 1 := hN1
  simp only [hN2] at q2 q6 q7 ⊢
  have hkS2 : zK s2 (zN μ.2) = (22, 0) := by rw [q2, if_neg (by omega)]; exact hkS
  rw [pf_ok (by rw [hkS2]; rfl), hup_s, Option.bind_some, hcv_v, hcv_v]
  have hA2 : ∀ x, x ≠ zN μ.2 + 1 → zA s2 x = zA μ.2 x := fun x hx => by rw [q6 x hx]; exact congrFun hA1 x
  have hF2 : ∀ f x, zF s2 f x = if f = 2101 ∧ x = zN μ.2 then 0 else zF s1 f x := fun f x => by rw [q1]; rfl
  refine ⟨_, rfl, ⟨zN μ.2 + 1, hkS2, ?_, ?_, ?_, hn, fun i hi => ⟨?_, hc i hi⟩⟩, ⟨?_, ?_, ?_, ?_, ?_, k6, k7, fun i hi => ?_⟩, ?_, ?_⟩
  · rw [zF_sF, if_pos ⟨rfl, rfl⟩]
  · rw [zF_sF, if_neg (by simp), hF2, if_pos ⟨rfl, rfl⟩]
  · show zK s2 _ = _
    rw [q2, if_pos rfl]
  · show zA s2 _ i = _
    rw [q7 i hi]
    show zA s1 va i = _
    exact j8 i hi
  · show zK s2 b = _
    rw [q2, if_neg (by omega)]; exact j1
  · rw [zF_sF, if_neg (by omega), hF2, if_neg (by omega)]; exact j2
  · rw [zF_sF, if_neg (by omega), hF2, if_neg (by omega)]; exact j3
  · rw [zF_sF, if_neg (by omega), hF2, if_neg (by omega)]; exact j4
  · show zK s2 va = _
    rw [q2, if_neg (by omega)]; exact j5
  · show zA s2 va i = _
    rw [hA2 va (by omega)]; exact k8 i hi
  · show zN s2 = _
    rw [q3]; show zN s1 + 1 = _; omega
  · refine ⟨q5.trans hE1, by show _ ≤ zN s2; rw [q3]; show _ ≤ zN s1 + 1; omega, by show zN s2 ≤ _; rw [q3]; show zN s1 + 1 ≤ _; omega, by show _ ≤ zU s2; rw [q4]; show _ ≤ zU s1 + n; omega, by show zU s2 ≤ _; rw [q4]; show zU s1 + n ≤ _; omega, fun x hx => ⟨?_, fun _ => ⟨fun f => ?_, ?_⟩⟩⟩
    · show zK s2 x = _
      rw [q2, if_neg (by omega)]
      show zK s1 x = _
      rw [hK1, if_neg (by omega)]
    · rw [zF_sF, if_neg (by omega), hF2, if_neg (by omega), hF1, if_neg (by omega)]
    · show zA s2 x = _
      exact hA2 x (by omega)
theorem setLen {b n va cap : Nat} {c : Nat → Int} {μ : cM} (h : SBx μ.2 b n c va cap) : ∃ σ', h_J1_setLength (b : Int) 0 μ = some (0, (3, 0), (μ.1, σ')) ∧ SBx σ' b 0 c va cap ∧ dF (fun a => a = b) μ.2 σ' 0 0 := by
  have hs := h
  obtain ⟨k1, k2, k3, k4, k5, k6, k7, k8⟩ := h
  have g0 : zgf μ.2 2000 (b : Int) = some (va : Int) := by rw [gf_ok (by rw [k1]; rfl), k2]
  have g1 : zgf μ.2 2001 (b : Int) = some 0 := by rw [gf_ok (by rw [k1]; rfl), k3]
  have g3 : zgf μ.2 2003 (b : Int) = some (n : Int) := by rw [gf_ok (by rw [k1]; rfl), k4]
  have e0 : zshr (cap : Int) 0 = (cap : Int) := by
    have := zshr_n (a := cap) (k := 0) (by decide) (by omega)
    simpa using this
  have e1 : zsub 0 (cap : Int) = - (cap : Int) := by rw [zsub_ok] <;> omega
  unfold h_J1_setLength h_J0_setLength h_J0_ensureCapacityInternal h_J0_ensureCapacityInternal_38
  simp only [g0, g1, la_ok k5, Option.bind_some, zlet, e0, e1]
  rw [gdT (is_ok k1), if_pos (by decide), gdT (is_ok k1), if_pos (by omega), hcv_v, g3, Option.bind_some, if_pos (by omega), Option.bind_some]
  unfold h_J0_setLength_76
  by_cases hn : (n : Int) ≤ 0
  · rw [if_pos hn, pf_ok (by rw [k1]; rfl), hup_s, Option.bind_some, hcv_v]
    refine ⟨_, rfl, ⟨k1, ?_, ?_, ?_, k5, by omega, k7, fun i hi => by omega⟩, dF.sF rfl⟩
    · rw [zF_sF, if_neg (by simp)]; exact k2
    · rw [zF_sF, if_neg (by simp)]; exact k3
    · rw [zF_sF, if_pos ⟨rfl, rfl⟩]; rfl
  · rw [if_neg hn, gdT (by decide), pf_ok (by rw [k1]; rfl), hup_s, Option.bind_some, pf_ok (by show zkf 2003 (zK μ.2 b).1 = true; rw [k1]; rfl), hup_s, Option.bind_some, hcv_v]
    refine ⟨_, rfl, ⟨k1, ?_, ?_, ?_, k5, by omega, k7, fun i hi => by omega⟩, (dF.sF (W := fun a => a = b) rfl).trans (dF.sF rfl)⟩
    · rw [zF_sF, if_neg (by simp), zF_sF, if_neg (by simp)]; exact k2
    · rw [zF_sF, if_neg (by simp), zF_sF, if_neg (by simp)]; exact k3
    · rw [zF_sF, if_pos ⟨rfl, rfl⟩]; rfl
theorem st_len {s n : Nat} {c : Nat → Int} {μ : cM} (h : isSt μ.2 s n c) : h_J2_length (s : Int) μ = some (0, zi n, μ) := by
  obtain ⟨va, k1, k2, k3, k4, k5, k6⟩ := h
  have g0 : zgf μ.2 2100 (s : Int) = some (va : Int) := by rw [gf_ok (by rw [k1]; rfl), k2]
  have g1 : zgf μ.2 2101 (s : Int) = some 0 := by rw [gf_ok (by rw [k1]; rfl), k3]
  unfold h_J2_length h_J2_coder h_J2_coder_14
  rw [g0, Option.bind_some, la_ok k4, Option.bind_some, gdT (is_ok k1), if_neg (by decide), g1, Option.bind_some, gdT (by decide), hci_i]
  have := zshr_n (a := n) (k := 0) (by decide) (by omega)
  rw [show zshr (n : Int) 0 = (n : Int) by simpa using this]
theorem st_at {s n i : Nat} {c : Nat → Int} {μ : cM} (h : isSt μ.2 s n c) (hi : i < n) : h_J2_charAt (s : Int) (i : Int) μ = some (0, zi (c i), μ) := by
  obtain ⟨va, k1, k2, k3, k4, k5, k6⟩ := h
  have g0 : zgf μ.2 2100 (s : Int) = some (va : Int) := by rw [gf_ok (by rw [k1]; rfl), k2]
  have g1 : zgf μ.2 2101 (s : Int) = some 0 := by rw [gf_ok (by rw [k1]; rfl), k3]
  obtain ⟨q1, q2, q3⟩ := k6 i hi
  unfold h_J2_charAt h_J2_isLatin1 h_J2_isLatin1_18 h_J15_charAt h_J2_checkIndex h_J14_checkIndex
  rw [gdT (is_ok k1), if_neg (by decide), g1, Option.bind_some, if_neg (by simp), gdT (by decide), hci_i, if_neg (by decide), g0, Option.bind_some, la_ok k4, Option.bind_some, if_neg (by omega), if_pos (by omega), hci_i, hcv_v, ga_ok k4 hi, Option.bind_some, q1]
  obtain ⟨m, hm⟩ := Int.eq_ofNat_of_zero_le q2
  have e : zi2c (zand (c i) 255) = c i := by
    have ez : zand (m : Int) 255 = ((m &&& 255 : Nat) : Int) := zand_n (a := m) (b := 255) (by omega)
    have em : m &&& 255 = m := by
      have := Nat.and_two_pow_sub_one_eq_mod m 8
      rw [show 2 ^ 8 - 1 = 255 from rfl] at this
      rw [this]
      omega
    rw [hm, ez, em]
    exact zi2c_ok (by omega) (by omega)
  rw [e, gdT (by unfold zch; simp; omega), hci_i, gdT (by unfold zch; simp; omega)]

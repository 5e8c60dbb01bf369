set_option maxRecDepth 100000
/-! the list of statements that were made -/
def PL (σ : zM) (l e n cap : Nat) (p : Nat → Nat) : Prop := zK σ l = (23, 0) ∧ zF σ 2201 l = e ∧ zF σ 2202 l = n ∧ zK σ e = (105, cap) ∧ n ≤ cap ∧ (cap = 120 ∨ cap = 180) ∧ (∀ i, i < n → zA σ e i = p i ∧ zK σ (p i) = (12, 0) ∧ p i < zN σ) ∧ (∀ i j, i < n → j < n → p i = p j → i = j) ∧ l < zN σ ∧ e < zN σ
theorem PL.keep {σ σ' : zM} {l e n cap c u : Nat} {p : Nat → Nat} {W : Nat → Prop} (h : PL σ l e n cap p) (d : dF W σ σ' c u) (h1 : ¬ W l) (h2 : ¬ W e) : PL σ' l e n cap p := by
  obtain ⟨k1, k2, k3, k4, k5, k6, k7, k8, k9, k10⟩ := h
  obtain ⟨d1, d2, d3, d4, d5, d6⟩ := d
  refine ⟨by rw [(d6 l k9).1]; exact k1, by rw [((d6 l k9).2 h1).1]; exact k2, by rw [((d6 l k9).2 h1).1]; exact k3, by rw [(d6 e k10).1]; exact k4, k5, k6, fun i hi => ?_, k8, by omega, by omega⟩
  obtain ⟨a1, a2, a3⟩ := k7 i hi
  exact ⟨by rw [((d6 e k10).2 h2).2]; exact a1, by rw [(d6 _ a3).1]; exact a2, by omega⟩
theorem pool_size {l e n cap : Nat} {p : Nat → Nat} {μ : cM} (h : PL μ.2 l e n cap p) : h_J6_size (l : Int) μ = some (0, zi n, μ) := by
  unfold h_J6_size
  rw [gf_ok (by rw [h.1]; rfl), Option.bind_some, h.2.2.1]
theorem pool_get {l e n cap i : Nat} {p : Nat → Nat} {μ : cM} (h : PL μ.2 l e n cap p) (hi : i < n) : h_J6_get (l : Int) (i : Int) μ = some (0, zr (p i), μ) := by
  obtain ⟨k1, k2, k3, k4, k5, k6, k7, k8, k9, k10⟩ := h
  have g1 : zgf μ.2 2201 (l : Int) = some (e : Int) := by rw [gf_ok (by rw [k1]; rfl), k2]
  have g2 : zgf μ.2 2202 (l : Int) = some (n : Int) := by rw [gf_ok (by rw [k1]; rfl), k3]
  unfold h_J6_get h_J21_checkIndex h_J14_checkIndex h_J6_elementData
  rw [g2, Option.bind_some, if_neg (by omega), if_pos (by omega), hci_i, hci_i, gdT (is_ok k1), g1, Option.bind_some, ga_ok k4 (by omega), Option.bind_some, (k7 i hi).1, hcr_r]
theorem pr_ok {σ : zM} {n a i y ky : Nat} (h : zK σ a = (105, n)) (hi : i < n) (hy : zK σ y = (ky, 0)) (hf : zfit 105 ky = true) : zpr σ 105 (a : Int) (i : Int) (y : Int) = some (zsA σ a i y) := by
  unfold zpr
  rw [Int.toNat_natCast, hy, if_pos (Or.inr ⟨Int.natCast_nonneg _, hf⟩)]
  exact pa_ok h hi
theorem pool_add {l e n cap y : Nat} {p : Nat → Nat} {μ : cM} (h : PL μ.2 l e n cap p) (hn : n ≤ 130) (hy : zK μ.2 y = (12, 0)) (hyN : y < zN μ.2) (hyn : ∀ i, i < n → p i ≠ y) (hle : l ≠ e) (h2 : zN μ.2 + 1 ≤ zE μ.2) (h3 : zU μ.2 + 200 ≤ 7287785) :
    ∃ σ' e' cap', h_J6_add (l : Int) (y : Int) μ = some (0, zi 1, (μ.1, σ')) ∧ PL σ' l e' (n + 1) cap' (fun i => if i = n then y else p i) ∧ (e' = e ∨ zN μ.2 ≤ e') ∧ dF (fun a => a = l ∨ a = e) μ.2 σ' 1 200 := by
  obtain ⟨k1, k2, k3, k4, k5, k6, k7, k8, k9, k10⟩ := h
  have g0 : zgf μ.2 2200 (l : Int) = some (zF μ.2 2200 l) := gf_ok (by rw [k1]; rfl)
  unfold h_J6_add h_J6_add_2
  rw [g0, Option.bind_some, pf_ok (by rw [k1]; rfl), hup_s, Option.bind_some]
  generalize hs1 : zsF μ.2 2200 l (zadd (zF μ.2 2200 l) 1) = s1
  have hK1 : ∀ x, zK s1 x = zK μ.2 x := by rw [← hs1]; intro x; rfl
  have hA1 : zA s1 = zA μ.2 := by rw [← hs1]; rfl
  have hF1 : ∀ f x, f ≠ 2200 → zF s1 f x = zF μ.2 f x := by
    rw [← hs1]; intro f x hf
    rw [zF_sF, if_neg (fun q => hf q.1)]
  have d1 : dF (fun a => a = l ∨ a = e) μ.2 s1 0 0 := by rw [← hs1]; exact dF.sF (Or.inl rfl)
  have hN1 : zN s1 = zN μ.2 := by rw [← hs1]; rfl
  have hU1 : zU s1 = zU μ.2 := by rw [← hs1]; rfl
  have hE1 : zE s1 = zE μ.2 := by rw [← hs1]; rfl
  have j1 : zK s1 l = (23, 0) := by rw [hK1]; exact k1
  have j4 : zK s1 e = (105, cap) := by rw [hK1]; exact k4
  have g1 : zgf s1 2201 (l : Int) = some (e : Int) := by rw [gf_ok (by rw [j1]; rfl), hF1 _ _ (by decide), k2]
  have g2 : zgf s1 2202 (l : Int) = some (n : Int) := by rw [gf_ok (by rw [j1]; rfl), hF1 _ _ (by decide), k3]
  have ea : zadd (n : Int) 1 = ((n + 1 : Nat) : Int) := by rw [zadd_ok] <;> omega
  rw [g1, Option.bind_some, g2, Option.bind_some, gdT (is_ok j1), la_ok j4, Option.bind_some]
  -- the end of it, over a list with room
  have fin : ∀ (s : zM) (e' cap' : Nat), zK s l = (23, 0) → zK s e' = (105, cap') → n < cap' → (cap' = 120 ∨ cap' = 180) → zF s 2201 l = e' → (∀ i, i < n → zA s e' i = p i) → (e' = e ∨ zN μ.2 ≤ e') → e' < zN s → dF (fun a => a = l ∨ a = e) μ.2 s 1 200 →
      ∃ σ', h_J6_add_2_11 (l : Int) (y : Int) (e' : Int) (n : Int) (μ.1, s) = some (0, (3, 0), (μ.1, σ')) ∧ PL σ' l e' (n + 1) cap' (fun i => if i = n then y else p i) ∧ dF (fun a => a = l ∨ a = e) μ.2 σ' 1 200 := by
    intro s e' cap' c1 c2 c3 c4 c5 c6 c7 c8 dd
    have dd' := dd
    obtain ⟨a1, a2, a3, a4, a5, a6⟩ := dd'
    have cy : zK s y = (12, 0) := by rw [(a6 y hyN).1]; exact hy
    unfold h_J6_add_2_11
    rw [pr_ok c2 c3 cy rfl, hup_s, Option.bind_some, ea, pf_ok (by show zkf 2202 (zK s l).1 = true; rw [c1]; rfl), hup_s, Option.bind_some]
    refine ⟨_, rfl, ⟨c1, ?_, ?_, c2, by omega, c4, fun i hi => ?_, fun i j hi hj he => ?_, by show l < zN s; omega, c8⟩, ?_⟩
    · rw [zF_sF, if_neg (by simp), zF_sA]; exact c5
    · rw [zF_sF, if_pos ⟨rfl, rfl⟩]
    · rw [zA_sF, zA_sA]
      show _ = ((if i = n then y else p i : Nat) : Int) ∧ zK s (if i = n then y else p i) = _ ∧ (if i = n then y else p i) < zN s
      by_cases hi2 : i = n
      · rw [if_pos ⟨rfl, hi2⟩, if_pos hi2]
        exact ⟨rfl, cy, by omega⟩
      · rw [if_neg (fun q => hi2 q.2), if_neg hi2]
        obtain ⟨b1, b2, b3⟩ := k7 i (by omega)
        exact ⟨c6 i (by omega), by rw [(a6 _ b3).1]; exact b2, by omega⟩
    · have he' : (if i = n then y else p i) = (if j = n then y else p j) := he
      by_cases hi2 : i = n
      · by_cases hj2 : j = n
        · omega
        · rw [if_pos hi2, if_neg hj2] at he'
          exact absurd he'.symm (hyn j (by omega))
      · by_cases hj2 : j = n
        · rw [if_neg hi2, if_pos hj2] at he'
          exact absurd he' (hyn i (by omega))
        · rw [if_neg hi2, if_neg hj2] at he'
          exact k8 i j (by omega) (by omega) he'
    · refine ⟨a1, a2, a3, a4, a5, fun a ha => ⟨(a6 a ha).1, fun hW => ⟨fun f => ?_, ?_⟩⟩⟩
      · rw [zF_sF, if_neg (fun q => hW (Or.inl q.2)), zF_sA]
        exact ((a6 a ha).2 hW).1 f
      · funext i
        rw [zA_sF, zA_sA, if_neg (fun q => by
          rcases c7 with e0 | e0
          · exact hW (Or.inr (by rw [← e0]; exact q.1))
          · omega)]
        rw [((a6 a ha).2 hW).2]
  by_cases hc : n = cap
  · subst hc
    rw [if_neg (by simp), gdT (is_ok j1)]
    unfold h_J6_grow h_J6_grow_2 h_J6_grow_2_20 h_J11_newLength h_J13_copyOf_2 h_J13_copyOf_3 h_J13_copyOf_3_24
    have e1 : zsub ((n + 1 : Nat) : Int) (n : Int) = 1 := by rw [zsub_ok] <;> omega
    have e2 : zshr (n : Int) 1 = ((n / 2 : Nat) : Int) := by
      have := zshr_n (a := n) (k := 1) (by decide) (by omega)
      simpa using this
    have e3 : (if (1 : Int) < ((n / 2 : Nat) : Int) then ((n / 2 : Nat) : Int) else 1) = ((n / 2 : Nat) : Int) := if_pos (by omega)
    have e4 : zadd (n : Int) ((n / 2 : Nat) : Int) = ((n + n / 2 : Nat) : Int) := by rw [zadd_ok] <;> omega
    rw [g2, Option.bind_some, gdT (is_ok j1), ea, g1, Option.bind_some, la_ok j4, Option.bind_some, if_pos (by omega)]
    simp only [zlet, e1, e2, e3, e4]
    rw [if_neg (by omega), if_neg (by omega), hci_i, g1, Option.bind_some, gdT (is_ok j4), gdT (by decide), nA_ok (by omega) (by show zN s1 + 1 ≤ zE s1; omega) (by show zU s1 + _ ≤ _; omega), hup_s, Option.bind_some]
    generalize hs2 : ((zF s1, fun a i => if a = zN s1 then zdef (zaty 105) else zA s1 a i, fun a => if a = zN s1 then (105, n + n / 2) else zK s1 a, zN s1 + 1, zU s1 + (n + n / 2), zE s1) : zM) = s2
    have hK2 : ∀ x, zK s2 x = if x = zN μ.2 then (105, n + n / 2) else zK μ.2 x := by
      rw [← hs2]; intro x
      show (if x = zN s1 then _ else zK s1 x) = _
      rw [hN1, hK1]
    have hA2 : ∀ x, x ≠ zN μ.2 → zA s2 x = zA μ.2 x := by
      rw [← hs2]; intro x hx; funext i
      show (if x = zN s1 then _ else zA s1 x i) = _
      rw [if_neg (by omega), hA1]
    have hF2 : zF s2 = zF s1 := by rw [← hs2]
    have hN2 : zN s2 = zN μ.2 + 1 := by rw [← hs2]; show zN s1 + 1 = _; omega
    have hU2 : zU s2 = zU μ.2 + (n + n / 2) := by rw [← hs2]; show zU s1 + _ = _; omega
    have hE2 : zE s2 = zE μ.2 := by rw [← hs2]; exact hE1
    have m4 : zK s2 e = (105, n) := by rw [hK2, if_neg (by omega)]; exact k4
    have m5 : zK s2 (zN μ.2) = (105, n + n / 2) := by rw [hK2, if_pos rfl]
    rw [la_ok m4, Option.bind_some, if_neg (by omega), show zN s1 = zN μ.2 from hN1]
    rw [zcpT (by
      refine ⟨⟨Int.natCast_nonneg _, Int.natCast_nonneg _, ?_, ?_⟩, ⟨by omega, by omega, by omega, ?_, ?_⟩, fun _ i hi => Or.inr ?_⟩
      · rw [Int.toNat_natCast, m4]
      · rw [Int.toNat_natCast, m5]
      · rw [Int.toNat_natCast, m4]; omega
      · rw [Int.toNat_natCast, m5]; omega
      · rw [Int.toNat_natCast, hA2 e (by omega)]
        obtain ⟨b1, b2, b3⟩ := k7 (0 + i) (by rw [Int.toNat_natCast] at hi; omega)
        show 0 ≤ zA μ.2 e (0 + i) ∧ zfit 105 (zK s2 (zA μ.2 e (0 + i)).toNat).1 = true
        rw [b1, Int.toNat_natCast, hK2, if_neg (by omega), b2]
        exact ⟨Int.natCast_nonneg _, rfl⟩), hup_s, Option.bind_some, hcr_r, hcr_r]
    generalize hs3 : zcpA s2 ((e : Int)).toNat (0 : Int).toNat ((zN μ.2 : Int)).toNat (0 : Int).toNat ((n : Int)).toNat = s3
    have hK3 : ∀ x, zK s3 x = zK s2 x := by rw [← hs3]; intro x; rfl
    have hF3 : zF s3 = zF s2 := by rw [← hs3]; rfl
    have hN3 : zN s3 = zN s2 := by rw [← hs3]; rfl
    have hU3 : zU s3 = zU s2 := by rw [← hs3]; rfl
    have hE3 : zE s3 = zE s2 := by rw [← hs3]; rfl
    have hA3 : ∀ x, x ≠ zN μ.2 → zA s3 x = zA μ.2 x := by
      rw [← hs3]; intro x hx; funext i
      show (if x = _ then _ else zA s2 x i) = _
      rw [Int.toNat_natCast, if_neg hx, hA2 x hx]
    have hA3' : ∀ i, i < n → zA s3 (zN μ.2) i = zA μ.2 e i := by
      rw [← hs3]; intro i hi
      show (if zN μ.2 = _ then va_cpy _ _ _ _ _ i else _) = _
      rw [Int.toNat_natCast, Int.toNat_natCast, if_pos rfl]
      show (if _ then _ else _) = _
      rw [if_pos ⟨Nat.zero_le _, by show i < 0 + (n : Int).toNat; omega⟩]
      show zA s2 e (0 + (i - 0)) = _
      rw [hA2 e (by omega)]
      congr 1
      omega
    have m1 : zK s3 l = (23, 0) := by rw [hK3, hK2, if_neg (by omega)]; exact k1
    rw [pf_ok (by rw [m1]; rfl), hup_s, Option.bind_some, hcr_r, hcr_r]
    obtain ⟨σ', f1, f2, f3⟩ := fin (zsF s3 2201 l (zN μ.2)) (zN μ.2) (n + n / 2) m1 (by show zK s3 _ = _; rw [hK3]; exact m5) (by omega) (by omega) (by rw [zF_sF, if_pos ⟨rfl, rfl⟩]) (fun i hi => by rw [zA_sF, hA3' i hi]; exact (k7 i hi).1) (Or.inr (Nat.le_refl _)) (by show zN μ.2 < zN s3; omega) (by
      refine ⟨by show zE s3 = _; rw [hE3, hE2], by show _ ≤ zN s3; omega, by show zN s3 ≤ _; omega, by show _ ≤ zU s3; omega, by show zU s3 ≤ _; omega, fun a ha => ⟨by show zK s3 a = _; rw [hK3, hK2, if_neg (by omega)], fun hW => ⟨fun f => ?_, ?_⟩⟩⟩
      · rw [zF_sF, if_neg (fun q => hW (Or.inl q.2)), hF3, hF2]
        exact ((d1.2.2.2.2.2 a ha).2 hW).1 f
      · show zA s3 a = _
        exact hA3 a (by omega))
    rw [f1, hcv_v, gdT (by decide)]
    exact ⟨σ', _, _, rfl, f2, Or.inr (Nat.le_refl _), f3⟩
  · rw [if_pos (by omega)]
    obtain ⟨σ', f1, f2, f3⟩ := fin s1 e cap j1 j4 (by omega) k6 (by rw [hF1 _ _ (by decide)]; exact k2) (fun i hi => by rw [hA1]; exact (k7 i hi).1) (Or.inl rfl) (by omega) (by
      obtain ⟨a1, a2, a3, a4, a5, a6⟩ := d1
      exact ⟨a1, a2, by omega, a4, by omega, a6⟩)
    rw [f1, hcv_v, gdT (by decide)]
    exact ⟨σ', e, cap, rfl, f2, Or.inl rfl, f3⟩

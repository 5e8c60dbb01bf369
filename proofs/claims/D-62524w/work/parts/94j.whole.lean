set_option maxRecDepth 100000
/-! a whole expression -/
/-- how the two stand ahead of an expression -/
def XP (o : Int) (μ : cM) (V : zW) (n : Nat) (tx : Nat → Int) (p s c : Nat) : Prop :=
  CR o μ n tx p s ∧ V.1 901 = n ∧ V.1 903 = p ∧ V.1 936 = c ∧ n ≤ 240 ∧ c ≤ 240 + p ∧ (∀ i, i < n → V.2 902 i = tx i) ∧ (∀ k, k < 8 → (μ.1.2 2000 k ≠ 0 ↔ 0 ≤ V.2 909 k ∨ 0 ≤ V.2 910 k)) ∧ zN μ.2 + (n - p) + 8 ≤ zE μ.2 ∧ zU μ.2 + 3 * (n - p) + 40 ≤ 7287785
def WOk (o : Int) (n : Nat) (tx : Nat → Int) (s : Nat) (μ : cM) (V : zW) (p c : Nat) (r : Option cO) (t : Option (Int × zW)) : Prop :=
  ∃ (e : Nat) (μ' : cM) (V' : zW) (p' c' : Nat), r = some (0, zr e, μ') ∧ t = some (1, V') ∧ p < p' ∧ (c < c' ∧ c' ≤ c + 23) ∧ XP o μ' V' n tx p' s c' ∧ IsEx μ'.2 24 e (V'.2 937) c c' ∧ (∀ j, j < c → V'.2 937 j = V.2 937 j) ∧ opc (nowOf tx n p') = -1 ∧ cF o μ μ' (p' - p) (3 * (p' - p)) ∧ tF V V'
def WSoft (o : Int) (n : Nat) (tx : Nat → Int) (s : Nat) (μ : cM) (V : zW) (p : Nat) (r : Option cO) (t : Option (Int × zW)) : Prop :=
  ∃ (e : Nat) (μ' : cM) (V' : zW) (p' : Nat), r = some (0, zr e, μ') ∧ t = some (0, V') ∧ p < p' ∧ CR o μ' n tx p' s ∧ V'.1 904 = (p' : Int) ∧ (nowOf tx n p' = 61 ∨ nowOf tx n p' = 60) ∧ (zK μ'.2 e = (13, 0) ∨ zK μ'.2 e = (14, 0) ∨ zK μ'.2 e = (15, 0)) ∧ cF o μ μ' (p' - p) (3 * (p' - p)) ∧ tF V V'
def WErr (o : Int) (n : Nat) (μ : cM) (V : zW) (p : Nat) (r : Option cO) (t : Option (Int × zW)) : Prop :=
  ∃ (a : Nat) (μ' : cM) (V' : zW) (q : Nat), r = some (1, zr a, μ') ∧ t = some (0, V') ∧ hG μ' 502 o = (q : Int) ∧ q ≤ n ∧ V'.1 904 = (q : Int) ∧ cF o μ μ' (n - p + 2) (3 * (n - p) + 8) ∧ tF V V'
theorem opc1 {x : Int} (h : stg (opc x) = 1) : x = 61 ∨ x = 60 := by
  unfold opc at h
  by_cases h1 : x = 43
  · rw [if_pos h1] at h; exact absurd h (by decide)
  · rw [if_neg h1] at h
    by_cases h2 : x = 45
    · rw [if_pos h2] at h; exact absurd h (by decide)
    · rw [if_neg h2] at h
      by_cases h3 : x = 42
      · rw [if_pos h3] at h; exact absurd h (by decide)
      · rw [if_neg h3] at h
        by_cases h4 : x = 61
        · exact Or.inl h4
        · rw [if_neg h4] at h
          by_cases h5 : x = 60
          · exact Or.inr h5
          · rw [if_neg h5] at h; exact absurd h (by decide)
theorem IsEx.kind {σ : zM} {d e a b : Nat} {f : Nat → Int} (h : IsEx σ d e f a b) : zK σ e = (13, 0) ∨ zK σ e = (14, 0) ∨ zK σ e = (15, 0) := by
  cases d with
  | zero => exact absurd h (by simp [IsEx])
  | succ d =>
    rcases h.2 with q | q | q
    · exact Or.inl q.1
    · exact Or.inr (Or.inl q.1)
    · exact Or.inr (Or.inr q.1)
theorem whole_sim {o : Int} {n : Nat} {tx : Nat → Int} {s wi : Nat} {μ : cM} {V : zW} {p c : Nat} (h : XP o μ V n tx p s c) (hwi : wi ≤ 1) :
    WOk o n tx s μ V p c (h_X5_whole o (wi : Int) μ) (t_X9_expression (wi : Int) V) ∨ WSoft o n tx s μ V p (h_X5_whole o (wi : Int) μ) (t_X9_expression (wi : Int) V) ∨ WErr o n μ V p (h_X5_whole o (wi : Int) μ) (t_X9_expression (wi : Int) V) := by
  obtain ⟨x1, x2, x3, x4, x5, x6, x7, x8, x9, x10⟩ := h
  have hrng := isSt.rng x1.2.1
  have hpn := x1.2.2.2.1
  have ht : t_X9_expression (wi : Int) V = XL wi 0 wi 1 0 (us V 942 0) := rfl
  have hXC : XC o (hS (hS μ 503 o (wi : Int)) 504 o 0) (us V 942 0) n tx p s 0 c wi 0 := by
    refine ⟨(x1.set (f := 503) (by decide)).set (by decide), ?_, ?_, ⟨by omega, by omega⟩, ⟨x2, x3, rfl, x4, x5, hpn, by omega, by omega, fun i hi => ?_⟩, x7, x8, x9, x10⟩
    · rw [hG_S, if_neg (by simp), hG_S, if_pos ⟨rfl, rfl⟩]
    · rw [hG_S, if_pos ⟨rfl, rfl⟩]; rfl
    · show 0 ≤ V.2 902 i ∧ V.2 902 i < 128
      rw [x7 i hi]; exact hrng i hi
  have hcF0 : cF o μ (hS (hS μ 503 o (wi : Int)) 504 o 0) 0 0 := (cF.s (by omega)).trans (cF.s (by omega))
  have htF0 : tF V (us V 942 0) := tF.s (by omega)
  unfold h_X5_whole
  simp only [hwl]
  rw [ht]
  rcases sim_all o n tx s wi (4 - wi) 40 (by omega) wi (by omega) (Nat.le_refl _) _ _ p 0 c 0 0 hXC (by omega) (Or.inl rfl) with R | E
  · obtain ⟨e, μ', V', p', k, m, pa', r1, R, r2, r3⟩ := R.ex
    obtain ⟨⟨a0, a1⟩, a2, a3, a4, a5, a6, a7, a8, a9⟩ := R
    obtain ⟨y1, y2, y3, y4, y5, y6, y7, y8, y9⟩ := id a2
    have hnow : nowOf (V'.2 902) n p' = nowOf tx n p' := now_eq y6
    rw [Nat.zero_add] at y5 a6
    have hstk : stk V' k k 1 := by
      refine ⟨Nat.le_refl _, fun i hi => ?_, Or.inl rfl⟩
      have := r2 (k - 1 - i) (by omega)
      rw [show 0 + (k - 1 - i) = k - 1 - i by omega] at this
      exact this
    rw [r1, hcrT_r]
    have hcF : cF o μ μ' (p' - p) (3 * (p' - p)) := (hcF0.trans a8).le (by omega) (by omega)
    have hopn := y4.2
    by_cases hop : opc (nowOf tx n p') = -1
    · have hE := XL_end y5 (wi := wi) (pa := pa') (op := wi) (tu := 0 + (p' - p)) (k := k) (by omega) (Or.inr (Nat.le_refl _)) (by rw [hnow]; exact hop) hstk
      rw [if_pos rfl] at hE
      refine Or.inl ⟨e, μ', popd V' k (c + m) k, p', c + m + k, rfl, by rw [a3, hE], a0, ⟨by omega, by omega⟩, ⟨y1, ?_, ?_, ?_, x5, ?_, ?_, ?_, y8, y9⟩, a6.mono (by omega), fun j hj => ?_, hop, hcF, (htF0.trans a9).trans tF.pop⟩
      · rw [popd_s, if_neg (by decide), if_neg (by decide)]; exact y5.1
      · rw [popd_s, if_neg (by decide), if_neg (by decide)]; exact y5.2.1
      · rw [popd_s, if_neg (by decide), if_pos rfl]
      · have := y5.2.2.2.2.2.2.2.1; omega
      · intro i hi
        rw [popd_a, if_neg (by simp)]; exact y6 i hi
      · intro i hi
        rw [popd_a, if_neg (by simp), popd_a, if_neg (by simp)]; exact y7 i hi
      · rw [popd_a, if_neg (by omega), a5 j hj]; rfl
    · have hnx : stg (opc (nowOf tx n p')) = 1 ∧ 0 < k ∧ stg (V'.2 943 0) = 1 ∧ ∀ i, 1 ≤ i → i < k → 2 ≤ stg (V'.2 943 (0 + i)) := by
        have := r3
        unfold nxOk at this
        rw [if_neg (by decide), if_neg (by decide), if_neg (by decide)] at this
        rcases this with q | q
        · exact absurd q hop
        · exact q
      obtain ⟨n1, n2, n3, n4⟩ := hnx
      have hF := XL_opF y5 (wi := wi) (pa := pa') (op := wi) (tu := 0 + (p' - p)) (k := k - 1) (by omega) (by rw [hnow]; exact n1) (by
        refine ⟨by omega, fun i hi => ?_, Or.inr ?_⟩
        · have := n4 (k - 1 - i) (by omega) (by omega)
          rw [show 0 + (k - 1 - i) = k - 1 - i by omega] at this
          exact this
        · rw [show k - 1 - (k - 1) = 0 by omega, n3]
          decide) (by omega) (by rw [show k - (k - 1) - 1 = 0 by omega]; exact n3)
      exact Or.inr (Or.inl ⟨e, μ', _, p', rfl, by rw [a3, hF], a0, y1, rfl, opc1 n1, a6.kind, hcF, (htF0.trans a9).trans (tF.pop.trans (tF.s (by omega)))⟩)
  · obtain ⟨a, μ', V', q, r1, r2, r3, r4, r5, r6, r7⟩ := E
    rw [r1, hcrT_x]
    exact Or.inr (Or.inr ⟨a, μ', V', q, rfl, r4, r2, r3, r5, (hcF0.trans r6).le (by omega) (by omega), htF0.trans r7⟩)

set_option maxRecDepth 100000
/-! products, sums, expressions -/
theorem stg_le (x : Int) : 0 ≤ stg x ∧ stg x ≤ 3 := by
  unfold stg
  split
  · omega
  · split
    · omega
    · split <;> omega
section B
variable {o : Int} {n : Nat} {tx : Nat → Int} {s wi : Nat} {μ : cM} {V : zW} {p w c op pa tu : Nat} {e1 : Nat} {μ1 : cM} {V1 : zW} {p1 k1 m1 pa1 : Nat}
theorem errB (L : XB o n tx s wi μ V p w c op pa tu e1 μ1 V1 p1 k1 m1 pa1)
    (B1 : XC o (mu2 o μ1 p1) (V2 V1 w c k1 m1 p1 (opc (nowOf tx n p1))) n tx (p1 + 1) s (w + 1) (c + m1 + k1) op pa1 ∧ XL wi pa op 1 tu V = XL wi pa1 op 1 (tu + (p1 + 1 - p)) (V2 V1 w c k1 m1 p1 (opc (nowOf tx n p1))) ∧ cF o μ1 (mu2 o μ1 p1) 1 3 ∧ tF V1 (V2 V1 w c k1 m1 p1 (opc (nowOf tx n p1))) ∧ p1 < n) {r : Option cO}
    (E : XErr o n wi (mu2 o μ1 p1) (V2 V1 w c k1 m1 p1 (opc (nowOf tx n p1))) (p1 + 1) op pa1 (tu + (p1 + 1 - p)) r) : XErr o n wi μ V p op pa tu r := by
  obtain ⟨b1, b2, b3, b4, b5⟩ := B1
  obtain ⟨⟨a0, a1⟩, a2, a3, a4, a5, a6, a7, a8, a9⟩ := L
  obtain ⟨a, μ', V', q, r1, r2, r3, r4, r5, r6, r7⟩ := E
  exact ⟨a, μ', V', q, r1, r2, r3, by rw [b2, r4], r5, ((a8.trans b3).trans r6).le (by omega) (by omega), (a9.trans b4).trans r7⟩
theorem prod_loop {d j : Nat} (hpart : Sim 1 4 5 1 o n tx s wi j) (hd : 1 + 4 * j ≤ d) (hop : op + j = 4) (hwi : wi ≤ op) (ht : tu ≤ p) (htop : topW V w 3) : ∀ (N : Nat) {e1 : Nat} {μ1 : cM} {V1 : zW} {p1 k1 m1 pa1 : Nat}, n - p1 ≤ N → XB o n tx s wi μ V p w c op pa tu e1 μ1 V1 p1 k1 m1 pa1 → (∀ j, j < k1 → 3 ≤ stg (V1.2 943 (w + j))) →
    XOk 3 o n tx s wi μ V p w c op pa tu (h_X5_product_5 (h_G_X5_expression d) o (e1 : Int) μ1) ∨ XErr o n wi μ V p op pa tu (h_X5_product_5 (h_G_X5_expression d) o (e1 : Int) μ1) := by
  intro N
  induction N with
  | zero =>
    intro e1 μ1 V1 p1 k1 m1 pa1 hN L hk
    have y1 := L.2.1.1
    have hpn := y1.2.2.2.1
    have hn : n ≤ 240 := L.2.1.2.2.2.2.1.2.2.2.2.1
    have h42 : nowOf tx n p1 ≠ 42 := by
      unfold nowOf
      rw [if_neg (by omega)]
      decide
    have e : h_X5_product_5 (h_G_X5_expression d) o (e1 : Int) μ1 = some (0, zr e1, μ1) := by
      unfold h_X5_product_5
      refine zloop_end ?_
      unfold h_X5_product_5_b h_X5_product_32
      rw [c_take y1 hn, if_neg h42, hci_i, if_pos rfl]
      rfl
    rw [e]
    exact Or.inl (XOk.of L rfl hk (by unfold nxOk; rw [if_neg (by decide), if_pos rfl]; exact h42))
  | succ N ih =>
    intro e1 μ1 V1 p1 k1 m1 pa1 hN L hk
    have y1 := L.2.1.1
    have hpn := y1.2.2.2.1
    have hn : n ≤ 240 := L.2.1.2.2.2.2.1.2.2.2.2.1
    have x8 := L.2.1.2.2.2.2.2.2.2.1
    have x9 := L.2.1.2.2.2.2.2.2.2.2
    by_cases h42 : nowOf tx n p1 = 42
    · have hs : opc (nowOf tx n p1) = 18 := by rw [h42]; decide
      have hs3 : stg (opc (nowOf tx n p1)) = 3 := by rw [hs]; decide
      have B1 := bin1 L ht (by rw [hs]; decide) (by rw [hs3]; exact hk) (by rw [hs3]; exact htop) (Or.inl (by rw [hs3]; decide))
      have hb : h_X5_product_5_b (h_G_X5_expression d) o (e1 : Int) μ1 = hcrT (h_G_X5_expression d 1 [o] (mu2 o μ1 p1)) (fun n a μ6 => some (.inr (n + 1, zr a, μ6))) fun v5 μ6 => zgd (decide (0 ≤ ((zN μ1.2 : Nat) : Int))) <| hcv (h_X14_init ((zN μ1.2 : Nat) : Int) 42 (e1 : Int) v5 μ6) fun μ7 => some (.inl (((zN μ1.2 : Nat) : Int), μ7)) := by
        unfold h_X5_product_5_b
        rw [c_take y1 hn, if_pos h42, hci_i, if_neg (by decide), nO_st (by show zN μ1.2 + 1 ≤ zE μ1.2; omega) (by show zU μ1.2 + 3 ≤ _; omega), hup_s, Option.bind_some]
        rfl
      rcases hpart d hd op hop hwi _ _ (p1 + 1) (w + 1) (c + m1 + k1) pa1 (tu + (p1 + 1 - p)) B1.1 (by have := L.1.1; omega) (Or.inr (by have := (stg_le ((V2 V1 w c k1 m1 p1 (opc (nowOf tx n p1))).2 943 (w + 1 - 1))).2; omega)) with R | E
      · obtain ⟨e2, μ3, V3, p3, k2, m2, pa3, r1, R, r2, r3⟩ := R.ex
        obtain ⟨q1, q2, q3⟩ := bin2 L (by rw [hs]; decide) B1 R
        rw [h42] at q1 q2
        rw [r1, hcrT_r, gdT (by simp), q1, hcv_v] at hb
        have : h_X5_product_5 (h_G_X5_expression d) o (e1 : Int) μ1 = h_X5_product_5 (h_G_X5_expression d) o ((zN μ1.2 : Nat) : Int) (μ3.1, zsF (zsF (zsF μ3.2 1400 (zN μ1.2) 42) 1401 (zN μ1.2) e1) 1402 (zN μ1.2) e2) := zloop_step hb
        rw [this]
        refine ih (by have := R.1.1; omega) q2 (fun i hi => ?_)
        by_cases hi0 : i = 0
        · rw [hi0, Nat.add_zero, q3, hs3]; decide
        · have := r2 (i - 1) (by omega)
          rw [show w + 1 + (i - 1) = w + i by omega] at this
          omega
      · obtain ⟨a, μ', V', q, r1, r2⟩ := id E
        rw [r1, hcrT_x] at hb
        have : h_X5_product_5 (h_G_X5_expression d) o (e1 : Int) μ1 = some (1, zr a, μ') := zloop_end hb
        rw [this]
        rw [r1] at E
        exact Or.inr (errB L B1 E)
    · have e : h_X5_product_5 (h_G_X5_expression d) o (e1 : Int) μ1 = some (0, zr e1, μ1) := by
        unfold h_X5_product_5
        refine zloop_end ?_
        unfold h_X5_product_5_b h_X5_product_32
        rw [c_take y1 hn, if_neg h42, hci_i, if_pos rfl]
        rfl
      rw [e]
      exact Or.inl (XOk.of L rfl hk (by unfold nxOk; rw [if_neg (by decide), if_pos rfl]; exact h42))
end B
theorem topW.mono {V : zW} {w : Nat} {a b : Int} (h : topW V w a) (hab : a ≤ b) : topW V w b := by
  rcases h with h | h
  · exact Or.inl h
  · exact Or.inr (by omega)
theorem sim_prod {o : Int} {n : Nat} {tx : Nat → Int} {s wi j : Nat} (hpart : Sim 1 4 5 1 o n tx s wi j) : Sim 2 3 3 2 o n tx s wi j := by
  intro d hd op hop hwi μ V p w c pa tu h ht htop
  obtain ⟨d, rfl⟩ : ∃ d', d = d' + 1 := ⟨d - 1, by omega⟩
  rw [h_G_prod]
  unfold h_X5_product
  rcases hpart d (by omega) op hop hwi μ V p w c pa tu h ht (htop.mono (by decide)) with R | E
  · obtain ⟨e2, μ3, V3, p3, k2, m2, pa3, r1, R, r2, r3⟩ := R.ex
    rw [r1, hcrT_r]
    exact prod_loop hpart (by omega) hop hwi ht htop (n - p3) (Nat.le_refl _) R (fun i hi => by have := r2 i hi; omega)
  · obtain ⟨a, μ', V', q, r1, r2⟩ := id E
    rw [r1, hcrT_x]
    rw [r1] at E
    exact Or.inr E

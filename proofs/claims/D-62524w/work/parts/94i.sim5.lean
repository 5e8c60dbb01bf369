set_option maxRecDepth 100000
section B
variable {o : Int} {n : Nat} {tx : Nat → Int} {s wi : Nat} {μ : cM} {V : zW} {p w c op pa tu : Nat}
theorem V2_top {V1 : zW} {w c k1 m1 p1 : Nat} {x : Int} : (V2 V1 w c k1 m1 p1 x).2 943 (w + 1 - 1) = x := by
  show (ua (popd V1 (w + k1) (c + m1) k1) 943 w x).2 943 (w + 1 - 1) = x
  rw [ua_a, if_pos ⟨rfl, by omega⟩]
theorem sum_end {d : Nat} {e1 : Nat} {μ1 : cM} {x : Int} (h : x ≠ 43 ∧ x ≠ 45) : h_X5_sum_10 (h_G_X5_expression d) o (e1 : Int) x μ1 = some (0, zr e1, μ1) := by
  unfold h_X5_sum_10
  refine zloop_end ?_
  unfold h_X5_sum_10_b h_X5_sum_54
  rw [if_neg h.1, if_pos h.2]
  rfl
theorem sum_loop {d j : Nat} (hprod : Sim 2 3 3 2 o n tx s wi j) (hd : 2 + 4 * j ≤ d) (hop : op + j = 4) (hwi : wi ≤ op) (ht : tu ≤ p) (htop : topW V w 2) : ∀ (N : Nat) {e1 : Nat} {μ1 : cM} {V1 : zW} {p1 k1 m1 pa1 : Nat}, n - p1 ≤ N → XB o n tx s wi μ V p w c op pa tu e1 μ1 V1 p1 k1 m1 pa1 → (∀ j, j < k1 → 2 ≤ stg (V1.2 943 (w + j))) → nowOf tx n p1 ≠ 42 →
    XOk 2 o n tx s wi μ V p w c op pa tu (h_X5_sum_10 (h_G_X5_expression d) o (e1 : Int) (nowOf tx n p1) μ1) ∨ XErr o n wi μ V p op pa tu (h_X5_sum_10 (h_G_X5_expression d) o (e1 : Int) (nowOf tx n p1) μ1) := by
  intro N
  induction N with
  | zero =>
    intro e1 μ1 V1 p1 k1 m1 pa1 hN L hk h42
    have hpn := L.2.1.1.2.2.2.1
    have h0 : nowOf tx n p1 = 0 := by
      unfold nowOf
      rw [if_neg (by omega)]
    rw [sum_end (by rw [h0]; decide)]
    exact Or.inl (XOk.of L rfl hk (by unfold nxOk; rw [if_neg (by decide), if_neg (by decide), if_pos rfl, h0]; decide))
  | succ N ih =>
    intro e1 μ1 V1 p1 k1 m1 pa1 hN L hk h42
    have y1 := L.2.1.1
    have hpn := y1.2.2.2.1
    have hn : n ≤ 240 := L.2.1.2.2.2.2.1.2.2.2.2.1
    have x8 := L.2.1.2.2.2.2.2.2.2.1
    have x9 := L.2.1.2.2.2.2.2.2.2.2
    by_cases h43 : nowOf tx n p1 = 43 ∨ nowOf tx n p1 = 45
    · have hs2 : stg (opc (nowOf tx n p1)) = 2 := by rcases h43 with q | q <;> rw [q] <;> decide
      have hsn : opc (nowOf tx n p1) ≠ -1 := by rcases h43 with q | q <;> rw [q] <;> decide
      have B1 := bin1 L ht hsn (by rw [hs2]; exact hk) (by rw [hs2]; exact htop) (Or.inl (by rw [hs2]; decide))
      have hb : h_X5_sum_10_b (h_G_X5_expression d) o (e1 : Int) (nowOf tx n p1) μ1 = hcrT (h_G_X5_expression d 2 [o] (mu2 o μ1 p1)) (fun n a μ6 => some (.inr (n + 1, zr a, μ6))) fun v5 μ6 => zgd (decide (0 ≤ ((zN μ1.2 : Nat) : Int))) <| hcv (h_X14_init ((zN μ1.2 : Nat) : Int) (nowOf tx n p1) (e1 : Int) v5 μ6) fun μ7 => hci (h_X5_now o μ7) fun v8 μ9 => some (.inl (((zN μ1.2 : Nat) : Int), v8, μ9)) := by
        have e22 : h_X5_sum_10_b (h_G_X5_expression d) o (e1 : Int) (nowOf tx n p1) μ1 = h_X5_sum_22 (h_G_X5_expression d) o (e1 : Int) (nowOf tx n p1) μ1 := by
          unfold h_X5_sum_10_b
          by_cases q : nowOf tx n p1 = 43
          · rw [if_pos q]
          · rw [if_neg q, if_neg (by rcases h43 with z | z; exact absurd z q; simpa using z)]
        rw [e22]
        unfold h_X5_sum_22
        simp only [zlet, hwl]
        rw [y1.2.2.1, nadd (by omega), nO_st (by show zN μ1.2 + 1 ≤ zE μ1.2; omega) (by show zU μ1.2 + 3 ≤ _; omega), hup_s, Option.bind_some]
        rfl
      rcases hprod d hd op hop hwi _ _ (p1 + 1) (w + 1) (c + m1 + k1) pa1 (tu + (p1 + 1 - p)) B1.1 (by have := L.1.1; omega) (Or.inr (by rw [V2_top, hs2]; decide)) with R | E
      · obtain ⟨e2, μ3, V3, p3, k2, m2, pa3, r1, R, r2, r3⟩ := R.ex
        obtain ⟨q1, q2, q3⟩ := bin2 L hsn B1 R
        rw [r1, hcrT_r, gdT (by simp), q1, hcv_v, c_now q2.2.1.1, hci_i] at hb
        have : h_X5_sum_10 (h_G_X5_expression d) o (e1 : Int) (nowOf tx n p1) μ1 = h_X5_sum_10 (h_G_X5_expression d) o ((zN μ1.2 : Nat) : Int) (nowOf tx n p3) (μ3.1, zsF (zsF (zsF μ3.2 1400 (zN μ1.2) (nowOf tx n p1)) 1401 (zN μ1.2) e1) 1402 (zN μ1.2) e2) := zloop_step hb
        rw [this]
        refine ih (by have := R.1.1; omega) q2 (fun i hi => ?_) (by
          unfold nxOk at r3
          rw [if_neg (by decide), if_pos rfl] at r3
          exact r3)
        by_cases hi0 : i = 0
        · rw [hi0, Nat.add_zero, q3, hs2]; decide
        · have := r2 (i - 1) (by omega)
          rw [show w + 1 + (i - 1) = w + i by omega] at this
          omega
      · obtain ⟨a, μ', V', q, r1, r2⟩ := id E
        rw [r1, hcrT_x] at hb
        have : h_X5_sum_10 (h_G_X5_expression d) o (e1 : Int) (nowOf tx n p1) μ1 = some (1, zr a, μ') := zloop_end hb
        rw [this]
        rw [r1] at E
        exact Or.inr (errB L B1 E)
    · rw [sum_end ⟨fun q => h43 (Or.inl q), fun q => h43 (Or.inr q)⟩]
      exact Or.inl (XOk.of L rfl hk (by unfold nxOk; rw [if_neg (by decide), if_neg (by decide), if_pos rfl]; exact ⟨h42, fun q => h43 (Or.inl q), fun q => h43 (Or.inr q)⟩))
end B
theorem sim_sum {o : Int} {n : Nat} {tx : Nat → Int} {s wi j : Nat} (hprod : Sim 2 3 3 2 o n tx s wi j) : Sim 3 2 2 3 o n tx s wi j := by
  intro d hd op hop hwi μ V p w c pa tu h ht htop
  obtain ⟨d, rfl⟩ : ∃ d', d = d' + 1 := ⟨d - 1, by omega⟩
  rw [h_G_sum]
  unfold h_X5_sum
  rcases hprod d (by omega) op hop hwi μ V p w c pa tu h ht (htop.mono (by decide)) with R | E
  · obtain ⟨e2, μ3, V3, p3, k2, m2, pa3, r1, R, r2, r3⟩ := R.ex
    rw [r1, hcrT_r, c_now R.2.1.1, hci_i]
    exact sum_loop hprod (by omega) hop hwi ht htop (n - p3) (Nat.le_refl _) R (fun i hi => by have := r2 i hi; omega) (by
      unfold nxOk at r3
      rw [if_neg (by decide), if_pos rfl] at r3
      exact r3)
  · obtain ⟨a, μ', V', q, r1, r2⟩ := id E
    rw [r1, hcrT_x]
    rw [r1] at E
    exact Or.inr E
theorem opc_no {x : Int} (h : x ≠ 42 ∧ x ≠ 43 ∧ x ≠ 45) (h1 : x ≠ 61) (h2 : x ≠ 60) : opc x = -1 := by
  unfold opc
  rw [if_neg h.2.1, if_neg h.2.2, if_neg h.1, if_neg h1, if_neg h2]
theorem sim_expr {o : Int} {n : Nat} {tx : Nat → Int} {s wi j : Nat} (hsum : Sim 3 2 2 3 o n tx s wi j) : Sim 0 1 1 4 o n tx s wi j := by
  intro d hd op hop hwi μ V p w c pa tu h ht htop
  obtain ⟨d, rfl⟩ : ∃ d', d = d' + 1 := ⟨d - 1, by omega⟩
  rw [h_G_expr]
  unfold h_X5_expression
  rcases hsum d (by omega) op hop hwi μ V p w c pa tu h ht (htop.mono (by decide)) with R | E
  · obtain ⟨e1, μ1, V1, p1, k1, m1, pa1, r1, L, hk, r3⟩ := R.ex
    have hnx : nowOf tx n p1 ≠ 42 ∧ nowOf tx n p1 ≠ 43 ∧ nowOf tx n p1 ≠ 45 := by
      unfold nxOk at r3
      rw [if_neg (by decide), if_neg (by decide), if_pos rfl] at r3
      exact r3
    have y1 := L.2.1.1
    have hpn := y1.2.2.2.1
    have hn : n ≤ 240 := L.2.1.2.2.2.2.1.2.2.2.2.1
    have x8 := L.2.1.2.2.2.2.2.2.2.1
    have x9 := L.2.1.2.2.2.2.2.2.2.2
    rw [r1, hcrT_r, c_now y1, hci_i]
    by_cases hc : nowOf tx n p1 = 61 ∨ nowOf tx n p1 = 60
    · have e24 : (if nowOf tx n p1 = 61 then h_X5_expression_24 (h_G_X5_expression d) o (e1 : Int) (nowOf tx n p1) μ1 else if nowOf tx n p1 = 60 then h_X5_expression_24 (h_G_X5_expression d) o (e1 : Int) (nowOf tx n p1) μ1 else some (0, zr (e1 : Int), μ1)) = h_X5_expression_24 (h_G_X5_expression d) o (e1 : Int) (nowOf tx n p1) μ1 := by
        by_cases q : nowOf tx n p1 = 61
        · rw [if_pos q]
        · rw [if_neg q, if_pos (by rcases hc with z | z; exact absurd z q; exact z)]
      rw [e24]
      have hs1 : stg (opc (nowOf tx n p1)) = 1 := by rcases hc with q | q <;> rw [q] <;> decide
      have hsn : opc (nowOf tx n p1) ≠ -1 := by rcases hc with q | q <;> rw [q] <;> decide
      have B1 := bin1 L ht hsn (by rw [hs1]; exact hk) (by rw [hs1]; exact htop.mono (by decide)) (Or.inr (by
        rcases htop with q | q
        · exact Or.inl q
        · exact Or.inr (by omega)))
      unfold h_X5_expression_24
      simp only [zlet, hwl]
      rw [y1.2.2.1, nadd (by omega), nO_st (by show zN μ1.2 + 1 ≤ zE μ1.2; omega) (by show zU μ1.2 + 3 ≤ _; omega), hup_s, Option.bind_some]
      show XOk 1 o n tx s wi μ V p w c op pa tu (hcrT (h_G_X5_expression d 3 [o] (mu2 o μ1 p1)) _ _) ∨ XErr o n wi μ V p op pa tu (hcrT (h_G_X5_expression d 3 [o] (mu2 o μ1 p1)) _ _)
      rcases hsum d (by omega) op hop hwi _ _ (p1 + 1) (w + 1) (c + m1 + k1) pa1 (tu + (p1 + 1 - p)) B1.1 (by have := L.1.1; omega) (Or.inr (by rw [V2_top, hs1]; decide)) with R2 | E
      · obtain ⟨e2, μ3, V3, p3, k2, m2, pa3, s1, R2, s2, s3⟩ := R2.ex
        obtain ⟨q1, q2, q3⟩ := bin2 L hsn B1 R2
        rw [s1, hcrT_r]
        have hinit := q1
        show XOk 1 o n tx s wi μ V p w c op pa tu (zgd (decide (0 ≤ ((zN μ1.2 : Nat) : Int))) (hcv (h_X14_init ((zN μ1.2 : Nat) : Int) (nowOf tx n p1) (e1 : Int) (e2 : Int) μ3) fun μ7 => some (0, zr ((zN μ1.2 : Nat) : Int), μ7))) ∨ XErr o n wi μ V p op pa tu (zgd (decide (0 ≤ ((zN μ1.2 : Nat) : Int))) (hcv (h_X14_init ((zN μ1.2 : Nat) : Int) (nowOf tx n p1) (e1 : Int) (e2 : Int) μ3) fun μ7 => some (0, zr ((zN μ1.2 : Nat) : Int), μ7)))
        rw [gdT (by simp), hinit, hcv_v]
        have hnx3 : nowOf tx n p3 ≠ 42 ∧ nowOf tx n p3 ≠ 43 ∧ nowOf tx n p3 ≠ 45 := by
          unfold nxOk at s3
          rw [if_neg (by decide), if_neg (by decide), if_pos rfl] at s3
          exact s3
        refine Or.inl (XOk.of q2 rfl (fun i hi => ?_) ?_)
        · by_cases hi0 : i = 0
          · rw [hi0, Nat.add_zero, q3, hs1]; decide
          · have := s2 (i - 1) (by omega)
            rw [show w + 1 + (i - 1) = w + i by omega] at this
            omega
        · unfold nxOk
          rw [if_neg (by decide), if_neg (by decide), if_neg (by decide)]
          by_cases h61 : nowOf tx n p3 = 61 ∨ nowOf tx n p3 = 60
          · refine Or.inr ⟨by rcases h61 with q | q <;> rw [q] <;> decide, by omega, by rw [q3]; exact hs1, fun i i1 i2 => ?_⟩
            have := s2 (i - 1) (by omega)
            rw [show w + 1 + (i - 1) = w + i by omega] at this
            exact this
          · exact Or.inl (opc_no hnx3 (fun q => h61 (Or.inl q)) (fun q => h61 (Or.inr q)))
      · obtain ⟨a, μ', V', q, s1, s2⟩ := id E
        rw [s1, hcrT_x]
        rw [s1] at E
        exact Or.inr (errB L B1 E)
    · rw [if_neg (fun q => hc (Or.inl q)), if_neg (fun q => hc (Or.inr q))]
      refine Or.inl (XOk.of L rfl (fun i hi => by have := hk i hi; omega) ?_)
      unfold nxOk
      rw [if_neg (by decide), if_neg (by decide), if_neg (by decide)]
      exact Or.inl (opc_no hnx (fun q => hc (Or.inl q)) (fun q => hc (Or.inr q)))
  · obtain ⟨a, μ', V', q, r1, r2⟩ := id E
    rw [r1, hcrT_x]
    rw [r1] at E
    exact Or.inr E
theorem sim_all (o : Int) (n : Nat) (tx : Nat → Int) (s wi : Nat) : ∀ j, Sim 0 1 1 4 o n tx s wi j := by
  intro j
  induction j with
  | zero => exact sim_expr (sim_sum (sim_prod (sim_part (Or.inl rfl))))
  | succ j ih => exact sim_expr (sim_sum (sim_prod (sim_part (Or.inr ih))))

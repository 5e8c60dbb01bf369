set_option maxRecDepth 100000
theorem stg21 : stg 21 = 0 := by decide
theorem sim_part {o : Int} {n : Nat} {tx : Nat → Int} {s wi j : Nat} (hx : j = 0 ∨ Sim 0 1 1 4 o n tx s wi (j - 1)) : Sim 1 4 5 1 o n tx s wi j := by
  intro d hd op hop hwi μ V p w c pa tu h ht _
  obtain ⟨d, rfl⟩ : ∃ d', d = d' + 1 := ⟨d - 1, by omega⟩
  rw [h_G_part]
  obtain ⟨x1, x2, x3, x4, x5, x6, x7, x8, x9⟩ := id h
  have hn : n ≤ 240 := x5.2.2.2.2.1
  have hnow : nowOf (V.2 902) n p = nowOf tx n p := now_eq x6
  have hpn := x1.2.2.2.1
  have hrng := nowOf_rng (isSt.rng x1.2.1) p
  unfold h_X5_part
  rw [c_now x1, hci_i]
  by_cases h40 : nowOf tx n p = 40
  · have hp : p < n := now_lt (tx := tx) (by rw [h40]; decide)
    rw [if_neg (by simpa using h40)]
    simp only [zlet]
    rw [x2]
    by_cases ho : op < 4
    · rw [if_neg (by omega)]
      unfold h_X5_part_24
      rw [c_needT (by decide), hcvT_v]
      simp only [zlet, hwl]
      rw [x2, nadd (by omega), hG_S, if_neg (by simp), x1.2.2.1, nadd (by omega)]
      have hXL := XL_open x5 (wi := wi) (pa := pa) ht (by rw [hnow]; exact h40) ho
      have hXC : XC o (hS (hS μ 503 o ((op + 1 : Nat) : Int)) 502 o ((p + 1 : Nat) : Int)) (us (us (ua V 943 w 21) 942 ((w + 1 : Nat) : Int)) 903 ((p + 1 : Nat) : Int)) n tx (p + 1) s (w + 1) c (op + 1) pa := by
        refine ⟨(x1.set (f := 503) (by decide)).at' (p + 1) (by omega), ?_, ?_, ⟨by omega, x4.2⟩, XI_open x5 hp, ?_, ?_, ?_, ?_⟩
        · rw [hG_S, if_neg (by simp), hG_S, if_pos ⟨rfl, rfl⟩]
        · rw [hG_S, if_neg (by simp), hG_S, if_neg (by simp)]; exact x3
        · intro i hi
          show (ua V 943 w 21).2 902 i = _
          rw [ua_a, if_neg (by simp)]; exact x6 i hi
        · intro k hk
          show μ.1.2 2000 k ≠ 0 ↔ 0 ≤ (ua V 943 w 21).2 909 k ∨ 0 ≤ (ua V 943 w 21).2 910 k
          rw [ua_a, if_neg (by simp), ua_a, if_neg (by simp)]
          exact x7 k hk
        · show zN μ.2 + (n - (p + 1)) + 8 ≤ zE μ.2
          omega
        · show zU μ.2 + 3 * (n - (p + 1)) + 40 ≤ _
          omega
      have hcF1 : cF o μ (hS (hS μ 503 o ((op + 1 : Nat) : Int)) 502 o ((p + 1 : Nat) : Int)) 0 0 := (cF.s (by omega)).trans (cF.s (by omega))
      have htF1 : tF V (us (us (ua V 943 w 21) 942 ((w + 1 : Nat) : Int)) 903 ((p + 1 : Nat) : Int)) := ((tF.a (by omega)).trans (tF.s (by omega))).trans (tF.s (by omega))
      have hx' : Sim 0 1 1 4 o n tx s wi (j - 1) := by
        rcases hx with e | e
        · omega
        · exact e
      rcases hx' d (by omega) (op + 1) (by omega) (by omega) _ _ (p + 1) (w + 1) c pa (tu + 1) hXC (by omega) (Or.inr (by
        show stg ((ua V 943 w 21).2 943 (w + 1 - 1)) < 1
        rw [ua_a, if_pos ⟨rfl, by omega⟩, stg21]
        decide)) with ⟨e, μ', V', p', k, m, pa', r1, ⟨r2, r3⟩, r4, r5, r6, r7, r8, r9, r10, r11, r12, r13⟩ | ⟨a, μ', V', q, r1, r2, r3, r4, r5, r6, r7⟩
      · rw [r1, hcrT_r]
        obtain ⟨y1, y2, y3, y4, y5, y6, y7, y8, y9⟩ := id r4
        have hnow' : nowOf (V'.2 902) n p' = nowOf tx n p' := now_eq y6
        have hp'n := y1.2.2.2.1
        have hopen : V'.2 943 w = 21 := by
          rw [r7 w (by omega)]
          show (ua V 943 w 21).2 943 w = 21
          rw [ua_a, if_pos ⟨rfl, rfl⟩]
        have hstk : stk V' (w + 1 + k) k 1 := by
          refine ⟨by omega, fun i hi => ?_, Or.inr ?_⟩
          · have := r6 (k - 1 - i) (by omega)
            rw [show w + 1 + (k - 1 - i) = w + 1 + k - 1 - i by omega] at this
            exact this
          · rw [show w + 1 + k - 1 - k = w by omega, hopen, stg21]
            decide
        by_cases h41 : nowOf tx n p' = 41
        · have hp' : p' < n := now_lt (tx := tx) (by rw [h41]; decide)
          rw [c_signT y1 hn h41, hcvT_v]
          rw [hG_S, if_neg (by simp), y2, zsub_ok (by omega) (by omega), show (((op + 1 : Nat) : Int) - 1) = (op : Int) by omega]
          have hXL2 := XL_close y5 (wi := wi) (pa := pa') (op := op + 1) (tu := tu + 1 + (p' - (p + 1))) (k := k) (by omega) (by rw [hnow']; exact h41) (by omega) (by omega) hstk (by omega)
          refine Or.inl ⟨e, _, us (us (popd V' (w + 1 + k) (c + m) k) 942 ((w + 1 + k - k - 1 : Nat) : Int)) 903 ((p' + 1 : Nat) : Int), p' + 1, 0, m + k, pa', rfl, ⟨by omega, by omega⟩, ⟨?_, ?_, ?_, ⟨x4.1, y4.2⟩, ?_, ?_, ?_, ?_, ?_⟩, ?_, fun i hi => by omega, fun i hi => ?_, fun i hi => ?_, ?_, by omega, ?_, ?_, ?_⟩
          · exact (y1.at' (p' + 1) (by omega)).set (by decide)
          · rw [hG_S, if_pos ⟨rfl, rfl⟩]
          · rw [hG_S, if_neg (by simp), hG_S, if_neg (by simp)]; exact y3
          · have := XI_close y5 hp' (k := k) (by omega)
            rw [show w + 1 + k - k - 1 = w + 0 by omega, show c + m + k = c + (m + k) by omega] at this
            rw [show w + 1 + k - k - 1 = w + 0 by omega]
            exact this
          · intro i hi
            show (popd V' (w + 1 + k) (c + m) k).2 902 i = _
            rw [popd_a, if_neg (by simp)]; exact y6 i hi
          · intro i hi
            show μ'.1.2 2000 i ≠ 0 ↔ 0 ≤ (popd V' (w + 1 + k) (c + m) k).2 909 i ∨ 0 ≤ (popd V' (w + 1 + k) (c + m) k).2 910 i
            rw [popd_a, if_neg (by simp), popd_a, if_neg (by simp)]
            exact y7 i hi
          · show zN μ'.2 + (n - (p' + 1)) + 8 ≤ zE μ'.2
            omega
          · show zU μ'.2 + 3 * (n - (p' + 1)) + 40 ≤ _
            omega
          · rw [hXL, r5, hXL2]
            rw [show tu + 1 + (p' - (p + 1)) + 1 = tu + (p' + 1 - p) by omega, show op + 1 - 1 = op by omega]
          · show (popd V' (w + 1 + k) (c + m) k).2 943 i = _
            rw [popd_a, if_neg (by simp), r7 i (by omega)]
            show (ua V 943 w 21).2 943 i = _
            rw [ua_a, if_neg (by omega)]
          · show (popd V' (w + 1 + k) (c + m) k).2 937 i = _
            rw [popd_a, if_neg (by omega), r8 i hi]
            show (ua V 943 w 21).2 937 i = _
            rw [ua_a, if_neg (by simp)]
          · rw [show c + (m + k) + 0 = c + m + k by omega]
            refine (r9.keep (σ' := μ'.2) (dF.refl _ _ 0 0) (fun i i1 i2 => ?_))
            show (popd (us (us (popd V' (w + 1 + k) (c + m) k) 942 _) 903 _) (w + 0) (c + (m + k)) 0).2 937 i = _
            rw [popd_a, if_neg (by omega)]
            rfl
          · show (if (4 : Int) = 4 then True else _)
            rw [if_pos rfl]; trivial
          · have h1 : cF o μ' (hS (hS μ' 502 o ((p' + 1 : Nat) : Int)) 503 o (op : Int)) 0 0 := (cF.s (by omega)).trans (cF.s (by omega))
            exact ((hcF1.trans r12).trans h1).le (by omega) (by omega)
          · exact (htF1.trans r13).trans ((tF.pop.trans (tF.s (by omega))).trans (tF.s (by omega)))
        · rw [c_signF y1 hn h41 (by omega) (by omega), hcvT_x]
          refine Or.inr ?_
          have hfr : cF o μ (μ'.1, xst μ'.2 51) (n - p + 2) (3 * (n - p) + 8) := ((hcF1.trans r12).trans (cF.d (xst_dF _ _ _))).le (by omega) (by omega)
          by_cases hop1 : opc (nowOf tx n p') = -1
          · have hE := XL_end y5 (wi := wi) (pa := pa') (op := op + 1) (tu := tu + 1 + (p' - (p + 1))) (k := k) (by omega) (Or.inl (by rw [hnow']; exact h41)) (by rw [hnow']; exact hop1) hstk
            rw [if_neg (by omega)] at hE
            exact ⟨_, _, _, p', rfl, y1.2.2.1, hp'n, by rw [hXL, r5, hE], rfl, hfr, (htF1.trans r13).trans (tF.pop.trans (tF.s (by omega)))⟩
          · have hnx : stg (opc (nowOf tx n p')) = 1 ∧ 0 < k ∧ stg (V'.2 943 (w + 1)) = 1 ∧ ∀ i, 1 ≤ i → i < k → 2 ≤ stg (V'.2 943 (w + 1 + i)) := by
              have := r11
              unfold nxOk at this
              rw [if_neg (by decide), if_neg (by decide), if_neg (by decide)] at this
              rcases this with q | q
              · exact absurd q hop1
              · exact q
            obtain ⟨n1, n2, n3, n4⟩ := hnx
            have hF := XL_opF y5 (wi := wi) (pa := pa') (op := op + 1) (tu := tu + 1 + (p' - (p + 1))) (k := k - 1) (by omega) (by rw [hnow']; exact n1) (by
              refine ⟨by omega, fun i hi => ?_, Or.inr ?_⟩
              · have := n4 (k - 1 - i) (by omega) (by omega)
                rw [show w + 1 + (k - 1 - i) = w + 1 + k - 1 - i by omega] at this
                exact this
              · rw [show w + 1 + k - 1 - (k - 1) = w + 1 by omega, n3]
                decide) (by omega) (by rw [show w + 1 + k - (k - 1) - 1 = w + 1 by omega]; exact n3)
            exact ⟨_, _, _, p', rfl, y1.2.2.1, hp'n, by rw [hXL, r5, hF], rfl, hfr, (htF1.trans r13).trans (tF.pop.trans (tF.s (by omega)))⟩
      · rw [r1, hcrT_x]
        exact Or.inr ⟨a, μ', V', q, rfl, r2, r3, by rw [hXL, r4], r5, (hcF1.trans r6).le (by omega) (by omega), htF1.trans r7⟩
    · have ho4 : op = 4 := by omega
      subst ho4
      rw [if_pos (by decide)]
      unfold h_X5_part_24
      rw [c_needF (by omega) (by omega), hcvT_x]
      exact Or.inr (failAt h (cF.refl _ _ _ _) x1.2.2.1 (XL_openF x5 ht (by rw [hnow]; exact h40)))
  · rw [if_pos h40]
    simp only [zlet]
    rw [x3]
    by_cases hpa : pa < 12
    · rw [if_neg (by omega)]
      unfold h_X5_part_84
      rw [c_needT (by decide), hcvT_v]
      simp only [zlet, hwl]
      rw [x3, nadd (by omega)]
      have hCR3 : CR o (hS μ 504 o ((pa + 1 : Nat) : Int)) n tx p s := x1.set (by decide)
      by_cases hdg : 48 ≤ nowOf tx n p ∧ nowOf tx n p < 56
      · have hp : p < n := now_lt (tx := tx) (by omega)
        rw [if_neg (by omega), if_neg (by omega), nO_st (by show zN μ.2 + 1 ≤ zE μ.2; omega) (by show zU μ.2 + 1 ≤ _; omega), hup_s, Option.bind_some]
        rw [c_letterT (hCR3.keep (nst_dF _ _ _ _)) hn (by decide) ⟨hdg.1, by omega⟩, hciT_i, gdT (by simp)]
        unfold h_X12_init h_J22_init
        rw [gdT (by simp), gdT (by simp), hcv_v, pf_ok (by show zkf 1200 (if zN μ.2 = zN μ.2 then _ else _ : Nat × Nat).1 = true; rw [if_pos rfl]; rfl), hup_s, Option.bind_some, hcv_v]
        have hL := XL_digit x5 (wi := wi) (pa := pa) (op := op) ht (by rw [hnow]; exact hdg) hpa
        rw [hnow] at hL
        exact Or.inl (leafOk h hp hpa hL (Or.inl ⟨rfl, rfl, rfl, by omega, by omega⟩) rfl)
      · have e125 : (if nowOf tx n p < 48 then h_X5_part_125 (h_G_X5_expression d) o (nowOf tx n p) (hS μ 504 o ((pa + 1 : Nat) : Int)) else if 55 < nowOf tx n p then h_X5_part_125 (h_G_X5_expression d) o (nowOf tx n p) (hS μ 504 o ((pa + 1 : Nat) : Int)) else (hup (hS μ 504 o ((pa + 1 : Nat) : Int)) (znO (hS μ 504 o ((pa + 1 : Nat) : Int)).2 12 1)).bind fun μ4 => hciT (h_X5_letter o 48 8 μ4) (fun n a μ7 => some (n + 1, zr a, μ7)) fun v6 μ7 => zgd (decide (0 ≤ (↑(zN (hS μ 504 o ((pa + 1 : Nat) : Int)).2) : Int))) <| hcv (h_X12_init (↑(zN (hS μ 504 o ((pa + 1 : Nat) : Int)).2) : Int) v6 μ7) fun μ8 => some (0, zr (↑(zN (hS μ 504 o ((pa + 1 : Nat) : Int)).2) : Int), μ8)) = h_X5_part_125 (h_G_X5_expression d) o (nowOf tx n p) (hS μ 504 o ((pa + 1 : Nat) : Int)) := by
          by_cases q : nowOf tx n p < 48
          · rw [if_pos q]
          · rw [if_neg q, if_pos (by omega)]
        rw [e125]
        unfold h_X5_part_125
        have hFail : ¬ known V (nowOf tx n p) → XOk 4 o n tx s wi μ V p w c op pa tu (h_X5_part_156 (h_G_X5_expression d) o (hS μ 504 o ((pa + 1 : Nat) : Int))) ∨ XErr o n wi μ V p op pa tu (h_X5_part_156 (h_G_X5_expression d) o (hS μ 504 o ((pa + 1 : Nat) : Int))) := by
          intro hk
          unfold h_X5_part_156 h_X5_part_157
          rw [c_needF (by show zN μ.2 + 1 ≤ zE μ.2; omega) (by show zU μ.2 + 6 ≤ _; omega), hcvT_x]
          exact Or.inr (failAt h (cF.s (by omega)) (by rw [hG_S, if_neg (by simp)]; exact x1.2.2.1) (XL_leafF x5 ht (by rw [hnow]; exact h40) (Or.inl (by rw [hnow]; exact ⟨hk, hdg⟩))))
        by_cases ha : nowOf tx n p < 97
        · rw [if_pos ha]
          exact hFail (fun q => by omega)
        · rw [if_neg ha]
          by_cases hb : 104 < nowOf tx n p
          · rw [if_pos hb]
            exact hFail (fun q => by omega)
          · rw [if_neg hb, zsub_ok (by omega) (by omega)]
            have hp : p < n := now_lt (tx := tx) (by omega)
            obtain ⟨k, hk⟩ : ∃ k : Nat, nowOf tx n p - 97 = k := ⟨(nowOf tx n p - 97).toNat, by omega⟩
            have hga' : hga (hS μ 504 o ((pa + 1 : Nat) : Int)) 200 0 (nowOf tx n p - 97) = some (μ.1.2 2000 k) := by
              unfold hga
              rw [hk, if_pos ⟨by omega, by show (k : Int) < 8; omega⟩, Int.toNat_natCast]
              rfl
            rw [hga', Option.bind_some]
            have h7 := x7 k (by omega)
            by_cases hz : μ.1.2 2000 k = 0
            · rw [if_pos hz]
              refine hFail (fun q => ?_)
              have := q.2.2
              rw [hk, Int.toNat_natCast] at this
              exact h7.mpr this hz
            · rw [if_neg hz]
              have hkn : known V (nowOf tx n p) := ⟨by omega, by omega, by rw [hk, Int.toNat_natCast]; exact h7.mp hz⟩
              unfold h_X5_part_157
              rw [c_needT (by decide), hcvT_v, nO_st (by show zN μ.2 + 1 ≤ zE μ.2; omega) (by show zU μ.2 + 1 ≤ _; omega), hup_s, Option.bind_some]
              simp only [zlet]
              rw [c_letterT (hCR3.keep (nst_dF _ _ _ _)) hn (by decide) ⟨by omega, by omega⟩, hciT_i, gdT (by simp)]
              unfold h_X13_init h_J22_init
              rw [gdT (by simp), gdT (by simp), hcv_v, pf_ok (by show zkf 1300 (if zN μ.2 = zN μ.2 then _ else _ : Nat × Nat).1 = true; rw [if_pos rfl]; rfl), hup_s, Option.bind_some, hcv_v]
              have hL := XL_name x5 (wi := wi) (pa := pa) (op := op) ht (by rw [hnow]; exact hkn) hpa
              rw [hnow] at hL
              exact Or.inl (leafOk h hp hpa hL (Or.inr ⟨rfl, rfl, rfl, by omega, by omega⟩) rfl)
    · have hpa' : pa = 12 := by omega
      subst hpa'
      rw [if_pos (by decide)]
      unfold h_X5_part_84
      rw [c_needF (by omega) (by omega), hcvT_x]
      exact Or.inr (failAt h (cF.refl _ _ _ _) x1.2.2.1 (XL_leafF x5 ht (by rw [hnow]; exact h40) (Or.inr rfl)))

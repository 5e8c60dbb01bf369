set_option maxRecDepth 100000
/-! the steps of the twin's reading of an expression -/
noncomputable abbrev XL (wi pa op pt tu : Nat) (V : zW) : Option (Int × zW) := t_X9_expression_15 (wi : Int) (pa : Int) (op : Int) (pt : Int) (tu : Int) V
def XI (V : zW) (n p w c : Nat) : Prop := V.1 901 = n ∧ V.1 903 = p ∧ V.1 942 = w ∧ V.1 936 = c ∧ n ≤ 240 ∧ p ≤ n ∧ w ≤ p ∧ c + w ≤ 240 + p ∧ ∀ i, i < n → 0 ≤ V.2 902 i ∧ V.2 902 i < 128
theorem nz (x : Nat) : zadd (x : Int) 1 = ((x + 1 : Nat) : Int) ∨ 2147483647 ≤ x := by
  by_cases h : 2147483647 ≤ x
  · exact Or.inr h
  · exact Or.inl (by rw [zadd_ok] <;> omega)
theorem nadd {x : Nat} (h : x < 2147483647) : zadd (x : Int) 1 = ((x + 1 : Nat) : Int) := by rw [zadd_ok] <;> omega
section X
variable {V : zW} {n p w c : Nat}
theorem XI.here (h : XI V n p w c) : t_X9_here V = some (nowOf (V.2 902) n p, V) := t_here h.1 h.2.1 h.2.2.2.2.1
theorem XI.from (h : XI V n p w c) {low most : Int} (h1 : 0 ≤ low ∧ low < 128) (h2 : 0 ≤ most ∧ most < 128) : t_X9_from low most V = some (letOf (nowOf (V.2 902) n p) low most, V) := t_from h.1 h.2.1 h.2.2.2.2.1 h.2.2.2.2.2.2.2.2 h1 h2
theorem now_lt {tx : Nat → Int} (h : nowOf tx n p ≠ 0) : p < n := by
  unfold nowOf at h
  by_cases hc : p < n
  · exact hc
  · rw [if_neg hc] at h; exact absurd rfl h
/-- the head of a turn -/
theorem xl_head (h : XI V n p w c) {wi pa op pt tu : Nat} (ht : tu ≤ p) : t_X9_expression_15_b (wi : Int) (pa : Int) (op : Int) (pt : Int) (tu : Int) V =
    if (pt : Int) = 0 then t_X9_expression_99 wi pa op pt tu (nowOf (V.2 902) n p) (letOf (nowOf (V.2 902) n p) 97 8) V
    else if nowOf (V.2 902) n p ≠ 40 then t_X9_expression_99 wi pa op pt tu (nowOf (V.2 902) n p) (letOf (nowOf (V.2 902) n p) 97 8) V
    else if (op : Int) ≠ 4 then
      zlet (zadd op 1) fun y6 =>
      zlet (V.1 942) fun v8 =>
      (tpa V 943 v8 21).bind fun V9 =>
      zlet (V9.1 942) fun v10 =>
      twl (us V9 942 (zadd v10 1)) fun V11 =>
      zlet (V11.1 903) fun v12 =>
      twl (us V11 903 (zadd v12 1)) fun V13 =>
      t_X9_expression_438 wi pa y6 pt tu V13
    else (t_X9_expression_57 V).map (fun r => (.inr r)) := by
  have hp := h.2.2.2.2.2.1
  unfold t_X9_expression_15_b
  simp only [zlet, h.1]
  rw [if_neg (by omega), h.here, tci_s, h.from (by omega) (by omega), tci_s]
theorem XL_open (h : XI V n p w c) {wi pa op tu : Nat} (ht : tu ≤ p) (hc : nowOf (V.2 902) n p = 40) (ho : op < 4) : XL wi pa op 1 tu V = XL wi pa (op + 1) 1 (tu + 1) (us (us (ua V 943 w 21) 942 ((w + 1 : Nat) : Int)) 903 ((p + 1 : Nat) : Int)) := by
  have hp : p < n := now_lt (tx := V.2 902) (by rw [hc]; decide)
  obtain ⟨h1, h2, h3, h4, h5, h6, h7, h8, h9⟩ := id h
  have e := xl_head h (wi := wi) (pa := pa) (op := op) (pt := 1) ht
  rw [if_neg (by decide), if_neg (by rw [hc]; simp), if_pos (by omega)] at e
  unfold t_X9_expression_438 at e
  simp only [zlet, twl, h3] at e
  rw [tpa_ok (by show w < 240; omega), Option.bind_some, ua_s, h3, nadd (by omega), us_s, if_neg (by decide), ua_s, h2, nadd (by omega), nadd (by omega), nadd (by omega)] at e
  exact zloop_step e
theorem XL_openF (h : XI V n p w c) {wi pa tu : Nat} (ht : tu ≤ p) (hc : nowOf (V.2 902) n p = 40) : XL wi pa 4 1 tu V = some (0, us V 904 (p : Int)) := by
  have e := xl_head h (wi := wi) (pa := pa) (op := 4) (pt := 1) ht
  rw [if_neg (by decide), if_neg (by rw [hc]; simp), if_neg (by simp)] at e
  unfold t_X9_expression_57 at e
  rw [t_fail, tci_s, h.2.1] at e
  exact zloop_end e
/-- a name that was told -/
abbrev known (V : zW) (x : Int) : Prop := 97 ≤ x ∧ x < 105 ∧ (0 ≤ V.2 909 (x - 97).toNat ∨ 0 ≤ V.2 910 (x - 97).toNat)
theorem xl_99 (h : XI V n p w c) {wi pa op tu : Nat} : t_X9_expression_99 wi pa op 1 tu (nowOf (V.2 902) n p) (letOf (nowOf (V.2 902) n p) 97 8) V =
    if known V (nowOf (V.2 902) n p) then t_X9_expression_129 wi pa op tu (nowOf (V.2 902) n p - 97) V else t_X9_expression_133 wi pa op tu (letOf (nowOf (V.2 902) n p) 97 8) V := by
  unfold t_X9_expression_99
  rw [if_neg (by decide)]
  generalize nowOf (V.2 902) n p = x
  unfold letOf known
  by_cases hx : 97 ≤ x ∧ x < 97 + 8
  · obtain ⟨m, hm⟩ : ∃ m : Nat, x - 97 = m := ⟨(x - 97).toNat, by omega⟩
    rw [if_pos hx, if_neg (by omega), hm, Int.toNat_natCast, tga_ok (by show m < 8; omega), Option.bind_some]
    by_cases h1 : 0 ≤ V.2 909 m
    · rw [if_pos h1, if_pos ⟨by omega, by omega, Or.inl h1⟩]
    · rw [if_neg h1, tga_ok (by show m < 8; omega), Option.bind_some]
      by_cases h2 : V.2 910 m < 0
      · rw [if_pos h2, if_neg (fun q => by rcases q.2.2 with q | q <;> omega)]
      · rw [if_neg h2, if_pos ⟨by omega, by omega, Or.inr (by omega)⟩]
  · rw [if_neg hx, if_pos (by decide), if_neg (fun q => hx ⟨q.1, by omega⟩)]
theorem XL_name (h : XI V n p w c) {wi pa op tu : Nat} (ht : tu ≤ p) (hk : known V (nowOf (V.2 902) n p)) (hpa : pa < 12) : XL wi pa op 1 tu V = XL wi (pa + 1) op 0 (tu + 1) (us (us (ua V 937 c (8 + (nowOf (V.2 902) n p - 97))) 936 ((c + 1 : Nat) : Int)) 903 ((p + 1 : Nat) : Int)) := by
  have hx := hk
  unfold known at hx
  have hp : p < n := now_lt (tx := V.2 902) (by omega)
  obtain ⟨h1, h2, h3, h4, h5, h6, h7, h8, h9⟩ := id h
  have e := xl_head h (wi := wi) (pa := pa) (op := op) (pt := 1) ht
  rw [if_neg (by decide), if_pos (by omega)] at e
  rw [show ((1 : Nat) : Int) = 1 from rfl, xl_99 h, if_pos hk] at e
  unfold t_X9_expression_129 t_X9_expression_134 t_X9_expression_152 t_X9_expression_188 t_X9_expression_438 at e
  simp only [zlet, twl] at e
  rw [if_pos (by decide), if_pos (by omega), if_neg (by decide), zadd_ok (a := 8) (by omega) (by omega), t_emit h4 (by omega), tcv_s, us_s, if_neg (by decide), ua_s, h2, nadd (by omega), nadd (by omega), nadd (by omega)] at e
  exact zloop_step e
theorem XL_digit (h : XI V n p w c) {wi pa op tu : Nat} (ht : tu ≤ p) (hk : 48 ≤ nowOf (V.2 902) n p ∧ nowOf (V.2 902) n p < 56) (hpa : pa < 12) : XL wi pa op 1 tu V = XL wi (pa + 1) op 0 (tu + 1) (us (us (ua V 937 c (nowOf (V.2 902) n p - 48)) 936 ((c + 1 : Nat) : Int)) 903 ((p + 1 : Nat) : Int)) := by
  have hp : p < n := now_lt (tx := V.2 902) (by omega)
  obtain ⟨h1, h2, h3, h4, h5, h6, h7, h8, h9⟩ := id h
  have e := xl_head h (wi := wi) (pa := pa) (op := op) (pt := 1) ht
  rw [if_neg (by decide), if_pos (by omega)] at e
  rw [show ((1 : Nat) : Int) = 1 from rfl, xl_99 h, if_neg (fun q => by unfold known at q; omega)] at e
  unfold t_X9_expression_133 t_X9_expression_134 t_X9_expression_152 t_X9_expression_188 t_X9_expression_438 at e
  have hl : letOf (nowOf (V.2 902) n p) 48 8 = nowOf (V.2 902) n p - 48 := if_pos (by omega)
  simp only [zlet, twl] at e
  rw [if_neg (by decide), h.from (by omega) (by omega), tci_s, hl, if_neg (by omega), if_pos (by omega), if_pos trivial, h.from (by omega) (by omega), tci_s, hl, t_emit h4 (by omega), tcv_s, us_s, if_neg (by decide), ua_s, h2, nadd (by omega), nadd (by omega), nadd (by omega)] at e
  exact zloop_step e
theorem XL_leafF (h : XI V n p w c) {wi pa op tu : Nat} (ht : tu ≤ p) (h40 : nowOf (V.2 902) n p ≠ 40) (hk : (¬ known V (nowOf (V.2 902) n p) ∧ ¬ (48 ≤ nowOf (V.2 902) n p ∧ nowOf (V.2 902) n p < 56)) ∨ pa = 12) : XL wi pa op 1 tu V = some (0, us V 904 (p : Int)) := by
  have e := xl_head h (wi := wi) (pa := pa) (op := op) (pt := 1) ht
  rw [if_neg (by decide), if_pos h40, show ((1 : Nat) : Int) = 1 from rfl, xl_99 h] at e
  have hF : t_X9_expression_158 V = some (0, us V 904 (p : Int)) := by
    unfold t_X9_expression_158
    rw [t_fail, tci_s, h.2.1]
    rfl
  refine zloop_end (e.trans ?_)
  by_cases hn : known V (nowOf (V.2 902) n p)
  · rw [if_pos hn]
    unfold t_X9_expression_129 t_X9_expression_134 t_X9_expression_152
    have hpa : pa = 12 := by
      rcases hk with q | q
      · exact absurd hn q.1
      · exact q
    rw [if_pos (by decide), if_neg (by rw [hpa]; simp), hF]
    rfl
  · rw [if_neg hn]
    unfold t_X9_expression_133 t_X9_expression_134 t_X9_expression_152
    rw [if_neg (by decide), h.from (by omega) (by omega), tci_s]
    by_cases hd : 48 ≤ nowOf (V.2 902) n p ∧ nowOf (V.2 902) n p < 56
    · have hpa : pa = 12 := by
        rcases hk with q | q
        · exact absurd hd q.2
        · exact q
      have hl : letOf (nowOf (V.2 902) n p) 48 8 = nowOf (V.2 902) n p - 48 := if_pos (by omega)
      rw [hl, if_neg (by omega), if_neg (by rw [hpa]; simp), hF]
      rfl
    · have hl : letOf (nowOf (V.2 902) n p) 48 8 = -1 := if_neg (by omega)
      rw [hl, if_pos (by decide), hF]
      rfl
end X

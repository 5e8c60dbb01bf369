set_option maxRecDepth 100000
/-! closing, operators, the end -/
theorem popd_s {V : zW} {w c k g : Nat} : (popd V w c k).1 g = if g = 942 then ((w - k : Nat) : Int) else if g = 936 then ((c + k : Nat) : Int) else V.1 g := rfl
theorem popd_a {V : zW} {w c k g j : Nat} : (popd V w c k).2 g j = if g = 937 ∧ c ≤ j ∧ j < c + k then V.2 943 (w - 1 - (j - c)) else V.2 g j := rfl
/-- the sign's code -/
def opc (x : Int) : Int := if x = 43 then 16 else if x = 45 then 17 else if x = 42 then 18 else if x = 61 then 19 else if x = 60 then 20 else -1
section X
variable {V : zW} {n p w c : Nat}
def stk (V : zW) (w k : Nat) (least : Int) : Prop := k ≤ w ∧ (∀ j, j < k → least ≤ stg (V.2 943 (w - 1 - j))) ∧ (k = w ∨ stg (V.2 943 (w - 1 - k)) < least)
theorem XI.settle (h : XI V n p w c) {k : Nat} {least : Int} (hs : stk V w k least) : t_X9_settle least V = some (popd V w c k) := by
  obtain ⟨h1, h2, h3, h4, h5, h6, h7, h8, h9⟩ := h
  exact t_settle k h3 h4 (by omega) (by have := hs.1; omega) hs.1 hs.2.1 hs.2.2
theorem XL_close (h : XI V n p w c) {wi pa op tu k : Nat} (ht : tu ≤ p) (hc : nowOf (V.2 902) n p = 41) (ho : wi < op) (ho2 : op < 100) (hs : stk V w k 1) (hk : k < w) : XL wi pa op 0 tu V = XL wi pa (op - 1) 0 (tu + 1) (us (us (popd V w c k) 942 ((w - k - 1 : Nat) : Int)) 903 ((p + 1 : Nat) : Int)) := by
  have hp : p < n := now_lt (tx := V.2 902) (by rw [hc]; decide)
  obtain ⟨h1, h2, h3, h4, h5, h6, h7, h8, h9⟩ := id h
  have e := xl_head h (wi := wi) (pa := pa) (op := op) (pt := 0) ht
  rw [if_pos (by decide)] at e
  unfold t_X9_expression_99 t_X9_expression_438 at e
  rw [if_pos (by decide), if_neg (by rw [hc]; simp), if_neg (by omega), h.settle hs, tcv_s] at e
  simp only [zlet, twl] at e
  rw [popd_s, if_pos rfl, zsub_ok (by omega) (by omega), show (((w - k : Nat) : Int) - 1) = ((w - k - 1 : Nat) : Int) by omega, us_s, if_neg (by decide), popd_s, if_neg (by decide), if_neg (by decide), h2, nadd (by omega), nadd (by omega), zadd_ok (by omega) (by omega), show ((op : Int) + -1) = ((op - 1 : Nat) : Int) by omega] at e
  exact zloop_step e
theorem xl_250 {wi pa op tu : Nat} (x : Int) : t_X9_expression_250 wi pa op tu x V = t_X9_expression_311 wi pa op tu (opc x) V := by
  unfold t_X9_expression_250 opc
  by_cases h1 : x = 43
  · rw [if_neg (by simpa using h1), if_pos h1]
  · rw [if_pos h1, if_neg h1]
    by_cases h2 : x = 45
    · rw [if_neg (by simpa using h2), if_pos h2]
    · rw [if_pos h2, if_neg h2]
      by_cases h3 : x = 42
      · rw [if_neg (by simpa using h3), if_pos h3]
      · rw [if_pos h3, if_neg h3]
        by_cases h4 : x = 61
        · rw [if_neg (by simpa using h4), if_pos h4]
        · rw [if_pos h4, if_neg h4]
          by_cases h5 : x = 60
          · rw [if_neg (by simpa using h5), if_pos h5]
          · rw [if_pos h5, if_neg h5]
theorem xl_99z (h : XI V n p w c) {wi pa op tu : Nat} (hc : nowOf (V.2 902) n p ≠ 41 ∨ op ≤ wi) (y : Int) : t_X9_expression_99 wi pa op 0 tu (nowOf (V.2 902) n p) y V = t_X9_expression_311 wi pa op tu (opc (nowOf (V.2 902) n p)) V := by
  unfold t_X9_expression_99
  rw [if_pos rfl]
  by_cases h41 : nowOf (V.2 902) n p = 41
  · rw [if_neg (by simpa using h41), if_pos (by rcases hc with q | q; exact absurd h41 q; omega), xl_250]
  · rw [if_pos h41, xl_250]
theorem XL_end (h : XI V n p w c) {wi pa op tu k : Nat} (ht : tu ≤ p) (hc : nowOf (V.2 902) n p ≠ 41 ∨ op ≤ wi) (ho : opc (nowOf (V.2 902) n p) = -1) (hs : stk V w k 1) : XL wi pa op 0 tu V = some (if k = w then (1, popd V w c k) else (0, us (popd V w c k) 904 (p : Int))) := by
  have e := xl_head h (wi := wi) (pa := pa) (op := op) (pt := 0) ht
  rw [if_pos (by decide), show ((0 : Nat) : Int) = 0 from rfl, xl_99z h hc, ho] at e
  unfold t_X9_expression_311 t_X9_expression_318 t_X9_expression_337 t_X9_expression_342 at e
  rw [if_neg (by decide), h.settle hs, tcv_s] at e
  simp only [zlet] at e
  rw [popd_s, if_pos rfl] at e
  refine zloop_end (e.trans ?_)
  have := hs.1
  by_cases hk : k = w
  · rw [if_pos (by omega), if_pos hk]; rfl
  · rw [if_neg (by omega), if_neg hk, t_fail, tci_s, if_pos rfl, popd_s, if_neg (by decide), if_neg (by decide), h.2.1]; rfl
theorem opc_rng {x : Int} (h : opc x ≠ -1) : 16 ≤ opc x ∧ opc x ≤ 20 ∧ x ≠ 41 ∧ x ≠ 0 := by
  unfold opc at h ⊢
  repeat (split at h <;> first | skip)
  all_goals (repeat (split <;> first | skip))
  all_goals omega
theorem XL_op (h : XI V n p w c) {wi pa op tu k : Nat} (ht : tu ≤ p) (ho : opc (nowOf (V.2 902) n p) ≠ -1) (hs : stk V w k (if 2 ≤ stg (opc (nowOf (V.2 902) n p)) then stg (opc (nowOf (V.2 902) n p)) else 2))
    (hf : stg (opc (nowOf (V.2 902) n p)) ≠ 1 ∨ k = w ∨ stg (V.2 943 (w - k - 1)) ≠ 1) : XL wi pa op 0 tu V = XL wi pa op 1 (tu + 1) (us (us (ua (popd V w c k) 943 (w - k) (opc (nowOf (V.2 902) n p))) 942 ((w - k + 1 : Nat) : Int)) 903 ((p + 1 : Nat) : Int)) := by
  have hr := opc_rng ho
  have hp : p < n := now_lt (tx := V.2 902) hr.2.2.2
  obtain ⟨h1, h2, h3, h4, h5, h6, h7, h8, h9⟩ := id h
  have hkw := hs.1
  have e := xl_head h (wi := wi) (pa := pa) (op := op) (pt := 0) ht
  rw [if_pos (by decide), show ((0 : Nat) : Int) = 0 from rfl, xl_99z h (Or.inl hr.2.2.1)] at e
  have e4 : t_X9_expression_404 wi pa op tu (opc (nowOf (V.2 902) n p)) (popd V w c k) = some (.inl ((pa : Int), (op : Int), (1 : Int), ((tu + 1 : Nat) : Int), us (us (ua (popd V w c k) 943 (w - k) (opc (nowOf (V.2 902) n p))) 942 ((w - k + 1 : Nat) : Int)) 903 ((p + 1 : Nat) : Int))) := by
    unfold t_X9_expression_404 t_X9_expression_438
    simp only [zlet, twl]
    rw [popd_s, if_pos rfl, tpa_ok (by show w - k < 240; omega), Option.bind_some, ua_s, popd_s, if_pos rfl, nadd (by omega), us_s, if_neg (by decide), ua_s, popd_s, if_neg (by decide), if_neg (by decide), h2, nadd (by omega), nadd (by omega)]
  have e3 : t_X9_expression_362 wi pa op tu (opc (nowOf (V.2 902) n p)) (if 2 ≤ stg (opc (nowOf (V.2 902) n p)) then stg (opc (nowOf (V.2 902) n p)) else 2) V = t_X9_expression_404 wi pa op tu (opc (nowOf (V.2 902) n p)) (popd V w c k) := by
    unfold t_X9_expression_362
    rw [h.settle hs, tcv_s, t_strength, tci_s]
    by_cases q1 : stg (opc (nowOf (V.2 902) n p)) = 1
    · rw [if_neg (by simpa using q1)]
      simp only [zlet]
      rw [popd_s, if_pos rfl]
      by_cases q2 : k = w
      · rw [if_pos (by omega)]
      · rw [if_neg (by omega), zsub_ok (by omega) (by omega), show (((w - k : Nat) : Int) - 1) = ((w - k - 1 : Nat) : Int) by omega, tga_ok (by show w - k - 1 < 240; omega), Option.bind_some, t_strength, tci_s, show (popd V w c k).2 943 (w - k - 1) = V.2 943 (w - k - 1) from by rw [popd_a, if_neg (by simp)]]
        rw [if_pos (by rcases hf with q | q | q; exact absurd q1 q; exact absurd q q2; exact q)]
    · rw [if_pos q1]
  unfold t_X9_expression_311 at e
  rw [if_pos (by omega), t_strength, tci_s] at e
  refine zloop_step (e.trans ?_)
  by_cases q : 2 ≤ stg (opc (nowOf (V.2 902) n p))
  · rw [if_pos q, t_strength, tci_s]
    rw [if_pos q] at e3
    rw [e3, e4]
    rfl
  · rw [if_neg q]
    rw [if_neg q] at e3
    rw [e3, e4]
    rfl
theorem XL_opF (h : XI V n p w c) {wi pa op tu k : Nat} (ht : tu ≤ p) (ho : stg (opc (nowOf (V.2 902) n p)) = 1) (hs : stk V w k 2) (hk : k < w) (hf : stg (V.2 943 (w - k - 1)) = 1) : XL wi pa op 0 tu V = some (0, us (popd V w c k) 904 (p : Int)) := by
  have ho' : opc (nowOf (V.2 902) n p) ≠ -1 := fun q => by rw [q] at ho; exact absurd ho (by decide)
  have hr := opc_rng ho'
  obtain ⟨h1, h2, h3, h4, h5, h6, h7, h8, h9⟩ := id h
  have e := xl_head h (wi := wi) (pa := pa) (op := op) (pt := 0) ht
  rw [if_pos (by decide), show ((0 : Nat) : Int) = 0 from rfl, xl_99z h (Or.inl hr.2.2.1)] at e
  unfold t_X9_expression_311 t_X9_expression_362 t_X9_expression_399 at e
  rw [if_pos (by omega), t_strength, tci_s, if_neg (by rw [ho]; decide), h.settle hs, tcv_s, t_strength, tci_s, if_neg (by rw [ho]; simp)] at e
  simp only [zlet] at e
  rw [popd_s, if_pos rfl, if_neg (by omega), zsub_ok (by omega) (by omega), show (((w - k : Nat) : Int) - 1) = ((w - k - 1 : Nat) : Int) by omega, tga_ok (by show w - k - 1 < 240; omega), Option.bind_some, t_strength, tci_s, show (popd V w c k).2 943 (w - k - 1) = V.2 943 (w - k - 1) from by rw [popd_a, if_neg (by simp)], if_neg (by rw [hf]; simp), t_fail, tci_s, popd_s, if_neg (by decide), if_neg (by decide), h2] at e
  exact zloop_end e
end X

set_option maxRecDepth 100000
/-! the twin's small functions -/
theorem tci_s {α : Type} {v : Int} {V : zW} {k : Int → zW → Option α} : tci (some (v, V)) k = k v V := rfl
theorem tcj_s {α : Type} {v : Int} {V : zW} {k : Int → zW → Option α} : tcj (some (v, V)) k = k v V := rfl
theorem tcv_s {α : Type} {V : zW} {k : zW → Option α} : tcv (some V) k = k V := rfl
theorem us_s {V : zW} {f g : Nat} {v : Int} : (us V f v).1 g = if g = f then v else V.1 g := rfl
theorem us_a {V : zW} {f : Nat} {v : Int} : (us V f v).2 = V.2 := rfl
theorem ua_s {V : zW} {f i : Nat} {v : Int} : (ua V f i v).1 = V.1 := rfl
theorem ua_a {V : zW} {f i g j : Nat} {v : Int} : (ua V f i v).2 g j = if g = f ∧ j = i then v else V.2 g j := rfl
theorem tga_ok {V : zW} {f i : Nat} (h : i < tlen f) : tga V f (i : Int) = some (V.2 f i) := by
  unfold tga
  rw [if_pos ⟨Int.natCast_nonneg i, by omega⟩, Int.toNat_natCast]
theorem tpa_ok {V : zW} {f i : Nat} {v : Int} (h : i < tlen f) : tpa V f (i : Int) v = some (ua V f i v) := by
  unfold tpa
  rw [if_pos ⟨Int.natCast_nonneg i, by omega⟩, Int.toNat_natCast]
/-- the sign at hand of a text of n signs -/
def nowOf (tx : Nat → Int) (n p : Nat) : Int := if p < n then tx p else 0
theorem t_here {V : zW} {n p : Nat} (hn : V.1 901 = n) (hp : V.1 903 = p) (h : n ≤ 240) : t_X9_here V = some (nowOf (V.2 902) n p, V) := by
  unfold t_X9_here t_X9_here_24 nowOf
  simp only [zlet, hn, hp]
  by_cases hc : p < n
  · rw [if_neg (by omega), tga_ok (by show p < 240; omega), Option.bind_some, if_pos hc]
  · rw [if_pos (by omega), if_neg hc]
theorem t_fail (V : zW) : t_X9_fail V = some (0, us V 904 (V.1 903)) := rfl
theorem t_in (x a b : Int) (V : zW) : t_X9_in x a b V = some (if a ≤ x ∧ x ≤ b then 1 else 0, V) := by
  unfold t_X9_in t_X9_in_14 t_X9_in_15
  by_cases h1 : x < a
  · rw [if_pos h1, if_neg (by omega)]; rfl
  · rw [if_neg h1]
    by_cases h2 : b < x
    · rw [if_pos h2, if_neg (by omega)]; rfl
    · rw [if_neg h2, if_pos (by omega)]; rfl
/-- the letter's number, or -1 -/
def letOf (c low most : Int) : Int := if low ≤ c ∧ c < low + most then c - low else -1
theorem nowOf_rng {tx : Nat → Int} {n : Nat} (h : ∀ i, i < n → 0 ≤ tx i ∧ tx i < 128) (p : Nat) : 0 ≤ nowOf tx n p ∧ nowOf tx n p < 128 := by
  unfold nowOf
  split
  · exact h p (by assumption)
  · omega
theorem t_from {V : zW} {n p : Nat} {low most : Int} (hn : V.1 901 = n) (hp : V.1 903 = p) (h : n ≤ 240) (hc : ∀ i, i < n → 0 ≤ V.2 902 i ∧ V.2 902 i < 128) (h1 : 0 ≤ low ∧ low < 128) (h2 : 0 ≤ most ∧ most < 128) : t_X9_from low most V = some (letOf (nowOf (V.2 902) n p) low most, V) := by
  have hr := nowOf_rng hc p
  unfold t_X9_from t_X9_from_26
  rw [t_here hn hp h, tci_s, t_in, tci_s, zsub_ok (by omega) (by omega), zsub_ok (by omega) (by omega)]
  unfold letOf
  by_cases hq : low ≤ nowOf (V.2 902) n p ∧ nowOf (V.2 902) n p < low + most
  · rw [if_pos (show 0 ≤ nowOf (V.2 902) n p - low ∧ nowOf (V.2 902) n p - low ≤ most - 1 by omega), if_neg (by decide), t_here hn hp h, tci_s, if_pos hq, zsub_ok (by omega) (by omega)]
  · rw [if_neg (show ¬ (0 ≤ nowOf (V.2 902) n p - low ∧ nowOf (V.2 902) n p - low ≤ most - 1) by omega), if_pos rfl, if_neg hq]
theorem t_takes {V : zW} {n p : Nat} {c : Int} (hn : V.1 901 = n) (hp : V.1 903 = p) (h : n ≤ 240) (hpn : p ≤ n) : t_X9_takes c V = some (if nowOf (V.2 902) n p = c then (1, us V 903 ((p + 1 : Nat) : Int)) else (0, us V 904 (p : Int))) := by
  unfold t_X9_takes
  rw [t_here hn hp h, tci_s]
  by_cases hq : nowOf (V.2 902) n p = c
  · rw [if_pos hq, if_pos hq]
    simp only [zlet, twl, hp]
    rw [zadd_ok (by omega) (by omega)]
    rfl
  · rw [if_neg hq, if_neg hq, t_fail, tci_s, hp]
    rfl
def stg (s : Int) : Int := if s = 18 then 3 else if s = 16 ∨ s = 17 then 2 else if s = 19 ∨ s = 20 then 1 else 0
theorem t_strength (s : Int) (V : zW) : t_X9_strength s V = some (stg s, V) := by
  unfold t_X9_strength t_X9_strength_22 t_X9_strength_38 t_X9_strength_43 stg
  by_cases h1 : s = 18
  · rw [if_neg (by simpa using h1), if_pos h1]
  · rw [if_pos h1, if_neg h1]
    by_cases h2 : s = 16
    · rw [if_pos h2, if_pos (Or.inl h2)]
    · rw [if_neg h2]
      by_cases h3 : s = 17
      · rw [if_neg (by simpa using h3), if_pos (Or.inr h3)]
      · rw [if_pos h3, if_neg (show ¬ (s = 16 ∨ s = 17) by omega)]
        by_cases h4 : s = 19
        · rw [if_pos h4, if_pos (Or.inl h4)]
        · rw [if_neg h4]
          by_cases h5 : s = 20
          · rw [if_neg (by simpa using h5), if_pos (Or.inr h5)]
          · rw [if_pos h5, if_neg (show ¬ (s = 19 ∨ s = 20) by omega)]
theorem t_emit {V : zW} {c : Nat} {s : Int} (hc : V.1 936 = c) (h : c < 480) : t_X9_emit s V = some (us (ua V 937 c s) 936 ((c + 1 : Nat) : Int)) := by
  unfold t_X9_emit
  simp only [zlet, twl, hc]
  rw [tpa_ok (by exact h), Option.bind_some, ua_s, hc, zadd_ok (by omega) (by omega)]
  rfl
/-- the signs that wait from w on, taken off one by one, are emitted -/
def popd (V : zW) (w c k : Nat) : zW := us (us (V.1, fun g j => if g = 937 ∧ c ≤ j ∧ j < c + k then V.2 943 (w - 1 - (j - c)) else V.2 g j) 936 ((c + k : Nat) : Int)) 942 ((w - k : Nat) : Int)
theorem zloop_step {S R : Type} {b : S → Option (S ⊕ R)} {s s' : S} (h : b s = some (.inl s')) : zloop b s = zloop b s' := by
  rw [zloop_eq, h]
theorem zloop_end {S R : Type} {b : S → Option (S ⊕ R)} {s : S} {r : R} (h : b s = some (.inr r)) : zloop b s = some r := by
  rw [zloop_eq, h]
theorem t_settle {least : Int} : ∀ (k : Nat) {V : zW} {w c : Nat}, V.1 942 = w → V.1 936 = c → w ≤ 240 → c + k ≤ 480 → k ≤ w → (∀ j, j < k → least ≤ stg (V.2 943 (w - 1 - j))) → (k = w ∨ stg (V.2 943 (w - 1 - k)) < least) → t_X9_settle least V = some (popd V w c k) := by
  intro k
  induction k with
  | zero =>
    intro V w c hw hc h240 h480 hkw hall hend
    unfold t_X9_settle t_X9_settle_0
    have e : popd V w c 0 = V := by
      unfold popd us
      refine Prod.ext ?_ ?_
      · funext g
        dsimp only
        by_cases h1 : g = 942
        · rw [if_pos h1, h1, hw, Nat.sub_zero]
        · rw [if_neg h1]
          by_cases h2 : g = 936
          · rw [if_pos h2, h2, hc, Nat.add_zero]
          · rw [if_neg h2]
      · funext g j
        dsimp only
        rw [if_neg (by omega)]
    rw [e]
    refine zloop_end ?_
    unfold t_X9_settle_0_b t_X9_settle_51
    simp only [zlet, hw]
    by_cases h0 : w = 0
    · rw [if_pos (by omega)]; rfl
    · rw [if_neg (by omega)]
      have hlt : stg (V.2 943 (w - 1 - 0)) < least := by
        rcases hend with h | h
        · exact absurd h.symm h0
        · exact h
      rw [zsub_ok (by omega) (by omega), show ((w : Int) - 1) = ((w - 1 : Nat) : Int) by omega, tga_ok (by show w - 1 < 240; omega), Option.bind_some, t_strength, tci_s, if_pos (by simpa using hlt)]
      rfl
  | succ k ih =>
    intro V w c hw hc h240 h480 hkw hall hend
    have h0 := hall 0 (by omega)
    rw [Nat.sub_zero] at h0
    have step : t_X9_settle_0_b least V = some (.inl (us (ua (us V 942 ((w - 1 : Nat) : Int)) 937 c (V.2 943 (w - 1))) 936 ((c + 1 : Nat) : Int))) := by
      unfold t_X9_settle_0_b
      simp only [zlet, hw, twl]
      rw [if_neg (by omega), zsub_ok (by omega) (by omega), show ((w : Int) - 1) = ((w - 1 : Nat) : Int) by omega, tga_ok (by show w - 1 < 240; omega), Option.bind_some, t_strength, tci_s, if_neg (by omega)]
      rw [hw, zsub_ok (by omega) (by omega), show ((w : Int) - 1) = ((w - 1 : Nat) : Int) by omega, us_s, if_pos rfl, tga_ok (by show w - 1 < 240; omega), Option.bind_some, us_a, t_emit (c := c) (by rw [us_s, if_neg (by decide)]; exact hc) (by omega), tcv_s]
    unfold t_X9_settle t_X9_settle_0
    rw [zloop_step step]
    have := ih (V := us (ua (us V 942 ((w - 1 : Nat) : Int)) 937 c (V.2 943 (w - 1))) 936 ((c + 1 : Nat) : Int)) (w := w - 1) (c := c + 1) (by rw [us_s, if_neg (by decide), ua_s, us_s, if_pos rfl]) (by rw [us_s, if_pos rfl]) (by omega) (by omega) (by omega) (fun j hj => by
        rw [us_a, ua_a, if_neg (by simp), us_a, show w - 1 - 1 - j = w - 1 - (j + 1) by omega]
        exact hall (j + 1) (by omega)) (by
        rw [us_a, ua_a, if_neg (by simp), us_a, show w - 1 - 1 - k = w - 1 - (k + 1) by omega]
        rcases hend with h | h
        · exact Or.inl (by omega)
        · exact Or.inr h)
    unfold t_X9_settle t_X9_settle_0 at this
    rw [this]
    congr 1
    refine Prod.ext ?_ ?_
    · funext g
      show (if g = 942 then ((w - 1 - k : Nat) : Int) else if g = 936 then ((c + 1 + k : Nat) : Int) else (if g = 936 then ((c + 1 : Nat) : Int) else if g = 942 then ((w - 1 : Nat) : Int) else V.1 g)) = (if g = 942 then ((w - (k + 1) : Nat) : Int) else if g = 936 then ((c + (k + 1) : Nat) : Int) else V.1 g)
      by_cases h1 : g = 942
      · rw [if_pos h1, if_pos h1]; congr 1; omega
      · rw [if_neg h1, if_neg h1]
        by_cases h2 : g = 936
        · rw [if_pos h2, if_pos h2]; congr 1; omega
        · rw [if_neg h2, if_neg h2, if_neg h2, if_neg h1]
    · funext g j
      show (if g = 937 ∧ c + 1 ≤ j ∧ j < c + 1 + k then (if (943 : Nat) = 937 ∧ w - 1 - 1 - (j - (c + 1)) = c then V.2 943 (w - 1) else V.2 943 (w - 1 - 1 - (j - (c + 1)))) else (if g = 937 ∧ j = c then V.2 943 (w - 1) else V.2 g j)) = (if g = 937 ∧ c ≤ j ∧ j < c + (k + 1) then V.2 943 (w - 1 - (j - c)) else V.2 g j)
      by_cases h1 : g = 937
      · by_cases h2 : j = c
        · rw [if_neg (by omega), if_pos ⟨h1, h2⟩, if_pos ⟨h1, by omega, by omega⟩, show w - 1 - (j - c) = w - 1 by omega]
        · by_cases h3 : c ≤ j ∧ j < c + (k + 1)
          · rw [if_pos ⟨h1, by omega, by omega⟩, if_neg (by simp), if_pos ⟨h1, h3⟩, show w - 1 - 1 - (j - (c + 1)) = w - 1 - (j - c) by omega]
          · rw [if_neg (by omega), if_neg (fun q => h2 q.2), if_neg (fun q => h3 q.2)]
      · rw [if_neg (fun q => h1 q.1), if_neg (fun q => h1 q.1), if_neg (fun q => h1 q.1)]

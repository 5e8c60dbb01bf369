set_option maxRecDepth 100000
/-! the component's reader: small functions -/
theorem hG_S {μ : cM} {f g : Nat} {o o' v : Int} : hG (hS μ f o v) g o' = if g = f ∧ cix g o' = cix f o then v else hG μ g o' := rfl
theorem hG_2 {v : cV} {σ σ' : zM} {f : Nat} {o : Int} : hG (v, σ) f o = hG (v, σ') f o := rfl
theorem hS_2 {μ : cM} {f : Nat} {o v : Int} : (hS μ f o v).2 = μ.2 := rfl
theorem hS_a {μ : cM} {f : Nat} {o v : Int} : (hS μ f o v).1.2 = μ.1.2 := rfl
theorem hcvT_v {α : Type} {μ : cM} {t : Nat → Int → cM → Option α} {k : cM → Option α} : hcvT (some (0, (3, 0), μ)) t k = k μ := rfl
theorem hcvT_x {α : Type} {n : Nat} {a : Int} {μ : cM} {t : Nat → Int → cM → Option α} {k : cM → Option α} : hcvT (some (n + 1, zr a, μ)) t k = t n a μ := rfl
theorem hciT_i {α : Type} {v : Int} {μ : cM} {t : Nat → Int → cM → Option α} {k : Int → cM → Option α} : hciT (some (0, zi v, μ)) t k = k v μ := rfl
theorem hciT_x {α : Type} {n : Nat} {a : Int} {μ : cM} {t : Nat → Int → cM → Option α} {k : Int → cM → Option α} : hciT (some (n + 1, zr a, μ)) t k = t n a μ := rfl
theorem hcrT_r {α : Type} {v : Int} {μ : cM} {t : Nat → Int → cM → Option α} {k : Int → cM → Option α} : hcrT (some (0, zr v, μ)) t k = k v μ := rfl
theorem hcrT_x {α : Type} {n : Nat} {a : Int} {μ : cM} {t : Nat → Int → cM → Option α} {k : Int → cM → Option α} : hcrT (some (n + 1, zr a, μ)) t k = t n a μ := rfl
/-- the reader's text and place -/
def CR (o : Int) (μ : cM) (n : Nat) (tx : Nat → Int) (p s : Nat) : Prop := hG μ 501 o = (s : Int) ∧ isSt μ.2 s n tx ∧ hG μ 502 o = (p : Int) ∧ p ≤ n ∧ s < zN μ.2 ∧ ∀ va : Nat, zF μ.2 2100 s = (va : Int) → va < zN μ.2
/-- a new exception -/
def xst (σ : zM) (k : Nat) : zM := (zF σ, zA σ, fun a => if a = zN σ then (k, 0) else zK σ a, zN σ + 1, zU σ + 6, zE σ)
theorem nX_ok {σ : zM} {k : Nat} (h2 : zN σ + 1 ≤ zE σ) (h3 : zU σ + 6 ≤ 7287785) : znX σ k = some (xst σ k) := by
  unfold znX xst
  rw [if_pos ⟨h2, h3⟩]
theorem xst_dF (W : Nat → Prop) (σ : zM) (k : Nat) : dF W σ (xst σ k) 1 6 := ⟨rfl, by show _ ≤ zN σ + 1; omega, Nat.le_refl _, by show _ ≤ zU σ + 6; omega, Nat.le_refl _, fun a ha => ⟨if_neg (by omega), fun _ => ⟨fun _ => rfl, rfl⟩⟩⟩
section C
variable {o : Int} {μ : cM} {n p s : Nat} {tx : Nat → Int}
theorem isSt.rng (h : isSt μ.2 s n tx) : ∀ i, i < n → 0 ≤ tx i ∧ tx i < 128 := by
  obtain ⟨va, k1, k2, k3, k4, k5, k6⟩ := h
  exact fun i hi => (k6 i hi).2
theorem c_now (h : CR o μ n tx p s) : h_X5_now o μ = some (0, zi (nowOf tx n p), μ) := by
  obtain ⟨h1, h2, h3, h4, h5, h6⟩ := h
  have hr := nowOf_rng (isSt.rng h2) p
  have hk : zK μ.2 s = (22, 0) := h2.choose_spec.1
  unfold h_X5_now h_X5_now_29
  simp only [zlet, h1, h3]
  rw [gdT (is_ok hk), st_len h2, hci_i]
  unfold nowOf at hr ⊢
  by_cases hc : p < n
  · rw [if_pos hc] at hr ⊢
    rw [if_neg (by omega), h1, h3, gdT (is_ok hk), st_at h2 hc, hci_i, gdT (by unfold zch; simp; omega)]
  · rw [if_pos (by omega), if_neg hc, gdT (by decide)]
theorem c_needT {v : Int} (h : v ≠ 0) : h_X5_need v μ = some (0, (3, 0), μ) := by
  unfold h_X5_need
  rw [if_pos h]
theorem c_needF (h2 : zN μ.2 + 1 ≤ zE μ.2) (h3 : zU μ.2 + 6 ≤ 7287785) : h_X5_need 0 μ = some (1, zr (zN μ.2), (μ.1, xst μ.2 51)) := by
  unfold h_X5_need
  rw [if_neg (by simp), nX_ok h2 h3, hup_s, Option.bind_some, gdT (is_ok (n := 0) (if_pos rfl))]
theorem CR.at' (h : CR o μ n tx p s) (q : Nat) (hq : q ≤ n) : CR o (hS μ 502 o (q : Int)) n tx q s := by
  obtain ⟨h1, h2, h3, h4, h5, h6⟩ := h
  exact ⟨by rw [hG_S, if_neg (by simp)]; exact h1, h2, by rw [hG_S, if_pos ⟨rfl, rfl⟩], hq, h5, h6⟩
theorem c_take (h : CR o μ n tx p s) (hn : n ≤ 240) {c : Int} : h_X5_take o c μ = some (if nowOf tx n p = c then (0, zi 1, hS μ 502 o ((p + 1 : Nat) : Int)) else (0, zi 0, μ)) := by
  have h4 := h.2.2.2.1
  unfold h_X5_take h_X5_take_13 h_X5_take_28
  rw [c_now h, hci_i]
  by_cases hc : nowOf tx n p = c
  · rw [if_neg (by simpa using hc), if_pos hc, if_neg (by decide)]
    simp only [zlet, hwl]
    rw [h.2.2.1, nadd (by omega), gdT (by decide)]
  · rw [if_pos hc, if_neg hc, if_pos rfl, gdT (by decide)]
theorem c_signT (h : CR o μ n tx p s) (hn : n ≤ 240) {c : Int} (hc : nowOf tx n p = c) : h_X5_sign o c μ = some (0, (3, 0), hS μ 502 o ((p + 1 : Nat) : Int)) := by
  unfold h_X5_sign
  rw [c_take h hn, if_pos hc, hci_i, c_needT (by decide), hcvT_v]
theorem c_signF (h : CR o μ n tx p s) (hn : n ≤ 240) {c : Int} (hc : nowOf tx n p ≠ c) (h2 : zN μ.2 + 1 ≤ zE μ.2) (h3 : zU μ.2 + 6 ≤ 7287785) : h_X5_sign o c μ = some (1, zr (zN μ.2), (μ.1, xst μ.2 51)) := by
  unfold h_X5_sign
  rw [c_take h hn, if_neg hc, hci_i, c_needF h2 h3, hcvT_x]
theorem c_letterT (h : CR o μ n tx p s) (hn : n ≤ 240) {lo bd : Int} (h0 : 0 ≤ lo ∧ lo < 128) (hc : lo ≤ nowOf tx n p ∧ nowOf tx n p < lo + bd) : h_X5_letter o lo bd μ = some (0, zi (nowOf tx n p - lo), hS μ 502 o ((p + 1 : Nat) : Int)) := by
  have hr := nowOf_rng (isSt.rng h.2.1) p
  have h4 := h.2.2.2.1
  unfold h_X5_letter h_X5_letter_21
  rw [c_now h, hci_i]
  simp only [zlet, hwl]
  rw [zsub_ok (by omega) (by omega), if_neg (by omega), if_neg (by omega), c_needT (by decide), hcvT_v, h.2.2.1, nadd (by omega)]
theorem c_letterF (h : CR o μ n tx p s) {lo bd : Int} (h0 : 0 ≤ lo ∧ lo < 128) (hc : ¬ (lo ≤ nowOf tx n p ∧ nowOf tx n p < lo + bd)) (h2 : zN μ.2 + 1 ≤ zE μ.2) (h3 : zU μ.2 + 6 ≤ 7287785) : h_X5_letter o lo bd μ = some (1, zr (zN μ.2), (μ.1, xst μ.2 51)) := by
  have hr := nowOf_rng (isSt.rng h.2.1) p
  unfold h_X5_letter h_X5_letter_20 h_X5_letter_21
  rw [c_now h, hci_i]
  simp only [zlet, hwl]
  rw [zsub_ok (by omega) (by omega)]
  by_cases hq : nowOf tx n p - lo < 0
  · rw [if_pos hq, c_needF h2 h3, hcvT_x]
  · rw [if_neg hq, if_pos (by omega), c_needF h2 h3, hcvT_x]
end C
/-- an expression as an object: its signs are f from a to b -/
def IsEx (σ : zM) : Nat → Nat → (Nat → Int) → Nat → Nat → Prop
  | 0, _, _, _, _ => False
  | d + 1, e, f, a, b => e < zN σ ∧
    ((zK σ e = (13, 0) ∧ b = a + 1 ∧ zF σ 1200 e = f a ∧ 0 ≤ f a ∧ f a < 8) ∨
     (zK σ e = (14, 0) ∧ b = a + 1 ∧ f a = 8 + zF σ 1300 e ∧ 0 ≤ zF σ 1300 e ∧ zF σ 1300 e < 8) ∨
     (zK σ e = (15, 0) ∧ ∃ x y mid : Nat, zF σ 1401 e = (x : Int) ∧ zF σ 1402 e = (y : Int) ∧ a < mid ∧ mid + 1 < b ∧ IsEx σ d x f a mid ∧ IsEx σ d y f mid (b - 1) ∧ f (b - 1) = opc (zF σ 1400 e) ∧ opc (zF σ 1400 e) ≠ -1))
theorem IsEx.mono {σ : zM} : ∀ {d : Nat} {e : Nat} {f : Nat → Int} {a b : Nat}, IsEx σ d e f a b → ∀ {d' : Nat}, d ≤ d' → IsEx σ d' e f a b := by
  intro d
  induction d with
  | zero => intro e f a b h; exact absurd h (by simp [IsEx])
  | succ d ih =>
    intro e f a b h d' hd
    obtain ⟨m, rfl⟩ : ∃ m, d' = m + 1 := ⟨d' - 1, by omega⟩
    obtain ⟨h0, h⟩ := h
    refine ⟨h0, ?_⟩
    rcases h with h | h | ⟨h1, x, y, mid, h2, h3, h4, h5, h6, h7, h8⟩
    · exact Or.inl h
    · exact Or.inr (Or.inl h)
    · exact Or.inr (Or.inr ⟨h1, x, y, mid, h2, h3, h4, h5, ih h6 (by omega), ih h7 (by omega), h8⟩)
theorem IsEx.keep {σ σ' : zM} {c u : Nat} (hd : dF (fun _ => False) σ σ' c u) : ∀ {d : Nat} {e : Nat} {f f' : Nat → Int} {a b : Nat}, IsEx σ d e f a b → (∀ i, a ≤ i → i < b → f' i = f i) → IsEx σ' d e f' a b := by
  obtain ⟨d1, d2, d3, d4, d5, d6⟩ := hd
  intro d
  induction d with
  | zero => intro e f f' a b h; exact absurd h (by simp [IsEx])
  | succ d ih =>
    intro e f f' a b h hf
    obtain ⟨h0, h⟩ := h
    have k := (d6 e h0).1
    have q := ((d6 e h0).2 (fun x => x)).1
    refine ⟨by omega, ?_⟩
    rcases h with ⟨h1, h2, h3, h4, h5⟩ | ⟨h1, h2, h3, h4, h5⟩ | ⟨h1, x, y, mid, h2, h3, h4, h5, h6, h7, h8, h9⟩
    · have := hf a (Nat.le_refl _) (by omega)
      exact Or.inl ⟨by rw [k]; exact h1, h2, by rw [q, this]; exact h3, by rw [this]; exact h4, by rw [this]; exact h5⟩
    · have := hf a (Nat.le_refl _) (by omega)
      exact Or.inr (Or.inl ⟨by rw [k]; exact h1, h2, by rw [this, q]; exact h3, by rw [q]; exact h4, by rw [q]; exact h5⟩)
    · have := hf (b - 1) (by omega) (by omega)
      exact Or.inr (Or.inr ⟨by rw [k]; exact h1, x, y, mid, by rw [q]; exact h2, by rw [q]; exact h3, h4, h5, ih h6 (fun i i1 i2 => hf i i1 (by omega)), ih h7 (fun i i1 i2 => hf i (by omega) (by omega)), by rw [this, q]; exact h8, by rw [q]; exact h9⟩)

set_option maxRecDepth 100000
/-! the two readings of an expression go together -/
section S
variable {V : zW} {n p w c : Nat}
theorem XI_open (h : XI V n p w c) (hp : p < n) : XI (us (us (ua V 943 w 21) 942 ((w + 1 : Nat) : Int)) 903 ((p + 1 : Nat) : Int)) n (p + 1) (w + 1) c := by
  obtain ⟨h1, h2, h3, h4, h5, h6, h7, h8, h9⟩ := h
  exact ⟨h1, rfl, rfl, h4, h5, by omega, by omega, by omega, h9⟩
theorem XI_leaf (h : XI V n p w c) (hp : p < n) (x : Int) : XI (us (us (ua V 937 c x) 936 ((c + 1 : Nat) : Int)) 903 ((p + 1 : Nat) : Int)) n (p + 1) w (c + 1) := by
  obtain ⟨h1, h2, h3, h4, h5, h6, h7, h8, h9⟩ := h
  exact ⟨h1, rfl, h3, rfl, h5, by omega, by omega, by omega, h9⟩
theorem XI_close (h : XI V n p w c) (hp : p < n) {k : Nat} (hk : k < w) : XI (us (us (popd V w c k) 942 ((w - k - 1 : Nat) : Int)) 903 ((p + 1 : Nat) : Int)) n (p + 1) (w - k - 1) (c + k) := by
  obtain ⟨h1, h2, h3, h4, h5, h6, h7, h8, h9⟩ := h
  refine ⟨h1, rfl, rfl, rfl, h5, by omega, by omega, by omega, fun i hi => ?_⟩
  show 0 ≤ (popd V w c k).2 902 i ∧ (popd V w c k).2 902 i < 128
  rw [popd_a, if_neg (by simp)]
  exact h9 i hi
theorem XI_op (h : XI V n p w c) (hp : p < n) {k : Nat} (hk : k ≤ w) (x : Int) : XI (us (us (ua (popd V w c k) 943 (w - k) x) 942 ((w - k + 1 : Nat) : Int)) 903 ((p + 1 : Nat) : Int)) n (p + 1) (w - k + 1) (c + k) := by
  obtain ⟨h1, h2, h3, h4, h5, h6, h7, h8, h9⟩ := h
  refine ⟨h1, rfl, rfl, rfl, h5, by omega, by omega, by omega, fun i hi => ?_⟩
  show 0 ≤ (ua (popd V w c k) 943 (w - k) x).2 902 i ∧ (ua (popd V w c k) 943 (w - k) x).2 902 i < 128
  rw [ua_a, if_neg (by simp), popd_a, if_neg (by simp)]
  exact h9 i hi
end S
/-- what stays on the twin's side while an expression is read -/
def tF (V V' : zW) : Prop := (∀ f, f ≠ 903 → f ≠ 904 → f ≠ 936 → f ≠ 942 → V'.1 f = V.1 f) ∧ (∀ f, f ≠ 937 → f ≠ 943 → V'.2 f = V.2 f)
theorem tF.refl (V : zW) : tF V V := ⟨fun _ _ _ _ _ => rfl, fun _ _ _ => rfl⟩
theorem tF.trans {V V' V'' : zW} (h : tF V V') (h' : tF V' V'') : tF V V'' := ⟨fun f a b c d => (h'.1 f a b c d).trans (h.1 f a b c d), fun f a b => (h'.2 f a b).trans (h.2 f a b)⟩
theorem tF.s {V : zW} {f : Nat} {v : Int} (h : f = 903 ∨ f = 904 ∨ f = 936 ∨ f = 942) : tF V (us V f v) := ⟨fun g a b c d => by rw [us_s, if_neg (by omega)], fun _ _ _ => rfl⟩
theorem tF.a {V : zW} {f i : Nat} {v : Int} (h : f = 937 ∨ f = 943) : tF V (ua V f i v) := ⟨fun _ _ _ _ _ => rfl, fun g a b => by funext j; rw [ua_a, if_neg (by omega)]⟩
theorem tF.pop {V : zW} {w c k : Nat} : tF V (popd V w c k) := ⟨fun g a b c d => by rw [popd_s, if_neg d, if_neg c], fun g a b => by funext j; rw [popd_a, if_neg (by omega)]⟩
/-- what stays on the component's side -/
def cF (o : Int) (μ μ' : cM) (c u : Nat) : Prop := dF (fun _ => False) μ.2 μ'.2 c u ∧ μ'.1.2 = μ.1.2 ∧ ∀ f i, ¬ ((f = 502 ∨ f = 503 ∨ f = 504) ∧ i = cix 502 o) → μ'.1.1 f i = μ.1.1 f i
theorem cF.refl (o : Int) (μ : cM) (c u : Nat) : cF o μ μ c u := ⟨dF.refl _ _ _ _, rfl, fun _ _ _ => rfl⟩
theorem cF.trans {o : Int} {μ μ' μ'' : cM} {c u c' u' : Nat} (h : cF o μ μ' c u) (h' : cF o μ' μ'' c' u') : cF o μ μ'' (c + c') (u + u') := ⟨h.1.trans h'.1, h'.2.1.trans h.2.1, fun f i q => (h'.2.2 f i q).trans (h.2.2 f i q)⟩
theorem dF.le {W : Nat → Prop} {σ σ' : zM} {c u c' u' : Nat} (h : dF W σ σ' c u) (h1 : c ≤ c') (h2 : u ≤ u') : dF W σ σ' c' u' := by
  obtain ⟨a1, a2, a3, a4, a5, a6⟩ := h
  exact ⟨a1, a2, by omega, a4, by omega, a6⟩
theorem cF.le {o : Int} {μ μ' : cM} {c u c' u' : Nat} (h : cF o μ μ' c u) (h1 : c ≤ c') (h2 : u ≤ u') : cF o μ μ' c' u' := ⟨h.1.le h1 h2, h.2⟩
theorem cF.s {o : Int} {μ : cM} {f : Nat} {v : Int} (h : f = 502 ∨ f = 503 ∨ f = 504) : cF o μ (hS μ f o v) 0 0 := by
  refine ⟨dF.refl _ _ _ _, rfl, fun g i q => ?_⟩
  show (if g = f ∧ i = cix f o then v else _) = _
  rw [if_neg (fun e => q ⟨by omega, by
    rw [e.2]
    rcases h with h | h | h <;> rw [h] <;> rfl⟩)]
theorem cF.d {o : Int} {μ : cM} {σ : zM} {c u : Nat} (h : dF (fun _ => False) μ.2 σ c u) : cF o μ (μ.1, σ) c u := ⟨h, rfl, fun _ _ _ => rfl⟩
theorem isSt.keep {σ σ' : zM} {c u s n : Nat} {tx : Nat → Int} (hd : dF (fun _ => False) σ σ' c u) (h : isSt σ s n tx) (hs : s < zN σ) (hv : ∀ va : Nat, zF σ 2100 s = (va : Int) → va < zN σ) : isSt σ' s n tx := by
  obtain ⟨va, k1, k2, k3, k4, k5, k6⟩ := h
  have hva := hv va k2
  obtain ⟨d1, d2, d3, d4, d5, d6⟩ := hd
  have q := (d6 s hs).2 (fun x => x)
  have r := (d6 va hva).2 (fun x => x)
  exact ⟨va, by rw [(d6 s hs).1]; exact k1, by rw [q.1]; exact k2, by rw [q.1]; exact k3, by rw [(d6 va hva).1]; exact k4, k5, fun i hi => by rw [r.2]; exact k6 i hi⟩
/-- how the two stand -/
def XC (o : Int) (μ : cM) (V : zW) (n : Nat) (tx : Nat → Int) (p s w c op pa : Nat) : Prop :=
  CR o μ n tx p s ∧ hG μ 503 o = (op : Int) ∧ hG μ 504 o = (pa : Int) ∧ (op ≤ 4 ∧ pa ≤ 12) ∧ XI V n p w c ∧ (∀ i, i < n → V.2 902 i = tx i) ∧ (∀ k, k < 8 → (μ.1.2 2000 k ≠ 0 ↔ 0 ≤ V.2 909 k ∨ 0 ≤ V.2 910 k)) ∧
  zN μ.2 + (n - p) + 8 ≤ zE μ.2 ∧ zU μ.2 + 3 * (n - p) + 40 ≤ 7287785
theorem now_eq {V : zW} {n p : Nat} {tx : Nat → Int} (h : ∀ i, i < n → V.2 902 i = tx i) : nowOf (V.2 902) n p = nowOf tx n p := by
  unfold nowOf
  split
  · exact h p (by assumption)
  · rfl
/-- the next sign behind what was read, by how strong what waits is -/
def nxOk (st : Int) (x : Int) (V : zW) (w k : Nat) : Prop :=
  if st = 4 then True else if st = 3 then x ≠ 42 else if st = 2 then x ≠ 42 ∧ x ≠ 43 ∧ x ≠ 45 else opc x = -1 ∨ (stg (opc x) = 1 ∧ 0 < k ∧ stg (V.2 943 w) = 1 ∧ ∀ j, 1 ≤ j → j < k → 2 ≤ stg (V.2 943 (w + j)))
def XOk (st : Int) (o : Int) (n : Nat) (tx : Nat → Int) (s wi : Nat) (μ : cM) (V : zW) (p w c op pa tu : Nat) (r : Option cO) : Prop :=
  ∃ (e : Nat) (μ' : cM) (V' : zW) (p' k m pa' : Nat), r = some (0, zr e, μ') ∧ (p < p' ∧ pa < pa') ∧ XC o μ' V' n tx p' s (w + k) (c + m) op pa' ∧ XL wi pa op 1 tu V = XL wi pa' op 0 (tu + (p' - p)) V' ∧
    (∀ j, j < k → st ≤ stg (V'.2 943 (w + j))) ∧ (∀ j, j < w → V'.2 943 j = V.2 943 j) ∧ (∀ j, j < c → V'.2 937 j = V.2 937 j) ∧ IsEx μ'.2 (2 * (pa' - pa)) e ((popd V' (w + k) (c + m) k).2 937) c (c + m + k) ∧ m + k + 1 = 2 * (pa' - pa) ∧
    nxOk st (nowOf tx n p') V' w k ∧ cF o μ μ' (p' - p) (3 * (p' - p)) ∧ tF V V'
def XErr (o : Int) (n wi : Nat) (μ : cM) (V : zW) (p op pa tu : Nat) (r : Option cO) : Prop :=
  ∃ (a : Nat) (μ' : cM) (V' : zW) (q : Nat), r = some (1, zr a, μ') ∧ hG μ' 502 o = (q : Int) ∧ q ≤ n ∧ XL wi pa op 1 tu V = some (0, V') ∧ V'.1 904 = (q : Int) ∧ cF o μ μ' (n - p + 2) (3 * (n - p) + 8) ∧ tF V V'
/-- the top of what waits is weaker -/
def topW (V : zW) (w : Nat) (st : Int) : Prop := w = 0 ∨ stg (V.2 943 (w - 1)) < st
def Sim (tag : Nat) (st tp : Int) (N : Nat) (o : Int) (n : Nat) (tx : Nat → Int) (s wi j : Nat) : Prop :=
  ∀ (d : Nat), N + 4 * j ≤ d → ∀ (op : Nat), op + j = 4 → wi ≤ op → ∀ (μ : cM) (V : zW) (p w c pa tu : Nat), XC o μ V n tx p s w c op pa → tu ≤ p → topW V w tp →
    XOk st o n tx s wi μ V p w c op pa tu (h_G_X5_expression d tag [o] μ) ∨ XErr o n wi μ V p op pa tu (h_G_X5_expression d tag [o] μ)

set_option maxRecDepth 100000
/-! parts of an expression -/
def nst (σ : zM) (ci n : Nat) : zM := (fun f a => if a = zN σ then zdef (zft f) else zF σ f a, zA σ, fun a => if a = zN σ then (ci + 1, 0) else zK σ a, zN σ + 1, zU σ + n, zE σ)
theorem nO_st {σ : zM} {ci n : Nat} (h2 : zN σ + 1 ≤ zE σ) (h3 : zU σ + n ≤ 7287785) : znO σ ci n = some (nst σ ci n) := nO_ok h2 h3
theorem nst_dF (W : Nat → Prop) (σ : zM) (ci n : Nat) : dF W σ (nst σ ci n) 1 n := ⟨rfl, by show _ ≤ zN σ + 1; omega, Nat.le_refl _, by show _ ≤ zU σ + n; omega, Nat.le_refl _, fun a ha => ⟨if_neg (by omega), fun _ => ⟨fun f => if_neg (by omega), rfl⟩⟩⟩
theorem dF.sFn {W : Nat → Prop} {σ s : zM} {c u f a : Nat} {v : Int} (h : dF W σ s c u) (ha : zN σ ≤ a) : dF W σ (zsF s f a v) c u := by
  obtain ⟨a1, a2, a3, a4, a5, a6⟩ := h
  refine ⟨a1, a2, a3, a4, a5, fun x hx => ⟨(a6 x hx).1, fun hW => ⟨fun g => ?_, ((a6 x hx).2 hW).2⟩⟩⟩
  rw [zF_sF, if_neg (by omega)]
  exact ((a6 x hx).2 hW).1 g
theorem CR.keep {o : Int} {μ : cM} {σ : zM} {n p s c u : Nat} {tx : Nat → Int} (h : CR o μ n tx p s) (hd : dF (fun _ => False) μ.2 σ c u) : CR o (μ.1, σ) n tx p s := by
  obtain ⟨h1, h2, h3, h4, h5, h6⟩ := h
  refine ⟨h1, h2.keep hd h5 h6, h3, h4, Nat.lt_of_lt_of_le h5 hd.2.1, fun va hva => ?_⟩
  have : zF σ 2100 s = zF μ.2 2100 s := ((hd.2.2.2.2.2 s h5).2 (fun x => x)).1 2100
  exact Nat.lt_of_lt_of_le (h6 va (by rw [← this]; exact hva)) hd.2.1
theorem CR.set {o : Int} {μ : cM} {n p s f : Nat} {tx : Nat → Int} {v : Int} (h : CR o μ n tx p s) (h1 : f ≠ 501 ∧ f ≠ 502) : CR o (hS μ f o v) n tx p s := by
  obtain ⟨k1, k2, k3, k4, k5, k6⟩ := h
  exact ⟨by rw [hG_S, if_neg (fun q => h1.1 q.1.symm)]; exact k1, k2, by rw [hG_S, if_neg (fun q => h1.2 q.1.symm)]; exact k3, k4, k5, k6⟩
theorem h_G_part (d : Nat) (o : Int) (μ : cM) : h_G_X5_expression (d + 1) 1 [o] μ = h_X5_part (h_G_X5_expression d) o μ := rfl
theorem h_G_expr (d : Nat) (o : Int) (μ : cM) : h_G_X5_expression (d + 1) 0 [o] μ = h_X5_expression (h_G_X5_expression d) o μ := rfl
theorem h_G_prod (d : Nat) (o : Int) (μ : cM) : h_G_X5_expression (d + 1) 2 [o] μ = h_X5_product (h_G_X5_expression d) o μ := rfl
theorem h_G_sum (d : Nat) (o : Int) (μ : cM) : h_G_X5_expression (d + 1) 3 [o] μ = h_X5_sum (h_G_X5_expression d) o μ := rfl
/-- a leaf is made: the component's and the twin's side -/
theorem leafOk {o : Int} {n : Nat} {tx : Nat → Int} {s wi : Nat} {μ : cM} {V : zW} {p w c op pa tu ci fl sl : Nat} {x v : Int} (h : XC o μ V n tx p s w c op pa) (hp : p < n) (hpa : pa < 12)
    (hL : XL wi pa op 1 tu V = XL wi (pa + 1) op 0 (tu + 1) (us (us (ua V 937 c x) 936 ((c + 1 : Nat) : Int)) 903 ((p + 1 : Nat) : Int)))
    (hc : (ci = 12 ∧ fl = 1200 ∧ v = x ∧ 0 ≤ x ∧ x < 8) ∨ (ci = 13 ∧ fl = 1300 ∧ x = 8 + v ∧ 0 ≤ v ∧ v < 8)) (hsl : sl = 1) :
    XOk 4 o n tx s wi μ V p w c op pa tu (some (0, zr (zN μ.2), ((hS (hS μ 504 o ((pa + 1 : Nat) : Int)) 502 o ((p + 1 : Nat) : Int)).1, zsF (nst μ.2 ci sl) fl (zN μ.2) v))) := by
  obtain ⟨x1, x2, x3, x4, x5, x6, x7, x8, x9⟩ := h
  have hd : dF (fun _ => False) μ.2 (zsF (nst μ.2 ci sl) fl (zN μ.2) v) 1 sl := (nst_dF _ _ _ _).sFn (Nat.le_refl _)
  have hk : zK (zsF (nst μ.2 ci sl) fl (zN μ.2) v) (zN μ.2) = (ci + 1, 0) := if_pos rfl
  have hv : zF (zsF (nst μ.2 ci sl) fl (zN μ.2) v) fl (zN μ.2) = v := by rw [zF_sF, if_pos ⟨rfl, rfl⟩]
  refine ⟨zN μ.2, _, us (us (ua V 937 c x) 936 ((c + 1 : Nat) : Int)) 903 ((p + 1 : Nat) : Int), p + 1, 0, 1, pa + 1, rfl, ⟨by omega, by omega⟩, ⟨?_, ?_, ?_, ⟨x4.1, by omega⟩, ?_, ?_, ?_, ?_, ?_⟩, ?_, fun j hj => by omega, fun j _ => ?_, fun j hj => ?_, ?_, by omega, ?_, ?_, ?_⟩
  · exact ((x1.set (f := 504) (by decide)).at' (p + 1) (by omega)).keep hd
  · rw [hG_2, hG_S, if_neg (by simp), hG_S, if_neg (by simp)]; exact x2
  · rw [hG_2, hG_S, if_neg (by simp), hG_S, if_pos ⟨rfl, rfl⟩]
  · exact XI_leaf x5 hp x
  · intro i hi
    show (ua V 937 c x).2 902 i = _
    rw [ua_a, if_neg (by simp)]; exact x6 i hi
  · intro k hk
    show μ.1.2 2000 k ≠ 0 ↔ 0 ≤ (ua V 937 c x).2 909 k ∨ 0 ≤ (ua V 937 c x).2 910 k
    rw [ua_a, if_neg (by simp), ua_a, if_neg (by simp)]
    exact x7 k hk
  · show zN μ.2 + 1 + (n - (p + 1)) + 8 ≤ zE μ.2
    omega
  · show zU μ.2 + sl + 3 * (n - (p + 1)) + 40 ≤ _
    omega
  · rw [show tu + (p + 1 - p) = tu + 1 by omega]; exact hL
  · show (ua V 937 c x).2 943 j = _
    rw [ua_a, if_neg (by simp)]
  · show (ua V 937 c x).2 937 j = _
    rw [ua_a, if_neg (by omega)]
  · rw [show 2 * (pa + 1 - pa) = 1 + 1 by omega]
    have hf : (popd (us (us (ua V 937 c x) 936 ((c + 1 : Nat) : Int)) 903 ((p + 1 : Nat) : Int)) (w + 0) (c + 1) 0).2 937 c = x := by
      rw [popd_a, if_neg (by omega)]
      show (ua V 937 c x).2 937 c = x
      rw [ua_a, if_pos ⟨rfl, rfl⟩]
    refine ⟨by show zN μ.2 < zN μ.2 + 1; omega, ?_⟩
    rcases hc with ⟨e1, e2, e3, e4, e5⟩ | ⟨e1, e2, e3, e4, e5⟩
    · subst e1 e2
      exact Or.inl ⟨hk, by omega, by rw [hf, hv]; exact e3, by rw [hf]; exact e4, by rw [hf]; exact e5⟩
    · subst e1 e2
      exact Or.inr (Or.inl ⟨hk, by omega, by rw [hf, hv]; exact e3, by rw [hv]; exact e4, by rw [hv]; exact e5⟩)
  · show (if (4 : Int) = 4 then True else _)
    rw [if_pos rfl]; trivial
  · have h1 : cF o μ (hS (hS μ 504 o ((pa + 1 : Nat) : Int)) 502 o ((p + 1 : Nat) : Int)) 0 0 := (cF.s (by omega)).trans (cF.s (by omega))
    exact (h1.trans (cF.d (o := o) (μ := hS (hS μ 504 o ((pa + 1 : Nat) : Int)) 502 o ((p + 1 : Nat) : Int)) hd)).le (by omega) (by omega)
  · exact ((tF.a (by omega)).trans (tF.s (by omega))).trans (tF.s (by omega))
/-- a failure before anything is taken -/
theorem failAt {o : Int} {n : Nat} {tx : Nat → Int} {s wi : Nat} {μ μ1 : cM} {V : zW} {p w c op pa tu : Nat} (h : XC o μ V n tx p s w c op pa) (h1 : cF o μ μ1 0 0) (h502 : hG μ1 502 o = (p : Int)) (hL : XL wi pa op 1 tu V = some (0, us V 904 (p : Int))) :
    XErr o n wi μ V p op pa tu (some (1, zr (zN μ1.2), (μ1.1, xst μ1.2 51))) := by
  refine ⟨_, _, _, p, rfl, h502, h.1.2.2.2.1, hL, rfl, ?_, tF.s (by omega)⟩
  exact (h1.trans (cF.d (xst_dF _ _ _))).le (by omega) (by omega)

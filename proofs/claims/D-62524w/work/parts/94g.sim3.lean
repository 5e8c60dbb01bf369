set_option maxRecDepth 100000
/-! two sides of an operation -/
theorem IsEx.keepY {σ σ' : zM} {y : Nat} : ∀ {d : Nat} {e : Nat} {f f' : Nat → Int} {a b : Nat}, IsEx σ d e f a b → (hN : zN σ ≤ zN σ') → (hK : ∀ x, x < zN σ → zK σ' x = zK σ x) → (hF : ∀ x, x < zN σ → x ≠ y → ∀ g, zF σ' g x = zF σ g x) → (hy : zK σ y = (15, 0) ∧ zF σ 1401 y = -1) → (∀ i, a ≤ i → i < b → f' i = f i) → IsEx σ' d e f' a b := by
  intro d
  induction d with
  | zero => intro e f f' a b h; exact absurd h (by simp [IsEx])
  | succ d ih =>
    intro e f f' a b h hN hK hF hy hf
    obtain ⟨h0, h⟩ := h
    have k := hK e h0
    refine ⟨by omega, ?_⟩
    rcases h with ⟨h1, h2, h3, h4, h5⟩ | ⟨h1, h2, h3, h4, h5⟩ | ⟨h1, x, y', mid, h2, h3, h4, h5, h6, h7, h8, h9⟩
    · have q := hF e h0 (fun q => by rw [q, hy.1] at h1; cases h1)
      have := hf a (Nat.le_refl _) (by omega)
      exact Or.inl ⟨by rw [k]; exact h1, h2, by rw [q, this]; exact h3, by rw [this]; exact h4, by rw [this]; exact h5⟩
    · have q := hF e h0 (fun q => by rw [q, hy.1] at h1; cases h1)
      have := hf a (Nat.le_refl _) (by omega)
      exact Or.inr (Or.inl ⟨by rw [k]; exact h1, h2, by rw [this, q]; exact h3, by rw [q]; exact h4, by rw [q]; exact h5⟩)
    · have q := hF e h0 (fun q => by rw [q, hy.2] at h2; omega)
      have := hf (b - 1) (by omega) (by omega)
      exact Or.inr (Or.inr ⟨by rw [k]; exact h1, x, y', mid, by rw [q]; exact h2, by rw [q]; exact h3, h4, h5, ih h6 hN hK hF hy (fun i i1 i2 => hf i i1 (by omega)), ih h7 hN hK hF hy (fun i i1 i2 => hf i (by omega) (by omega)), by rw [this, q]; exact h8, by rw [q]; exact h9⟩)
def XB (o : Int) (n : Nat) (tx : Nat → Int) (s wi : Nat) (μ : cM) (V : zW) (p w c op pa tu : Nat) (e : Nat) (μ' : cM) (V' : zW) (p' k m pa' : Nat) : Prop :=
  (p < p' ∧ pa < pa') ∧ XC o μ' V' n tx p' s (w + k) (c + m) op pa' ∧ XL wi pa op 1 tu V = XL wi pa' op 0 (tu + (p' - p)) V' ∧
    (∀ j, j < w → V'.2 943 j = V.2 943 j) ∧ (∀ j, j < c → V'.2 937 j = V.2 937 j) ∧ IsEx μ'.2 (2 * (pa' - pa)) e ((popd V' (w + k) (c + m) k).2 937) c (c + m + k) ∧ m + k + 1 = 2 * (pa' - pa) ∧
    cF o μ μ' (p' - p) (3 * (p' - p)) ∧ tF V V'
theorem XOk.of {st : Int} {o : Int} {n : Nat} {tx : Nat → Int} {s wi : Nat} {μ : cM} {V : zW} {p w c op pa tu : Nat} {e : Nat} {μ' : cM} {V' : zW} {p' k m pa' : Nat} {r : Option cO} (h : XB o n tx s wi μ V p w c op pa tu e μ' V' p' k m pa') (hr : r = some (0, zr e, μ')) (h1 : ∀ j, j < k → st ≤ stg (V'.2 943 (w + j))) (h2 : nxOk st (nowOf tx n p') V' w k) : XOk st o n tx s wi μ V p w c op pa tu r := by
  obtain ⟨a1, a2, a3, a4, a5, a6, a7, a8, a9⟩ := h
  exact ⟨e, μ', V', p', k, m, pa', hr, a1, a2, a3, h1, a4, a5, a6, a7, h2, a8, a9⟩
theorem XOk.ex {st : Int} {o : Int} {n : Nat} {tx : Nat → Int} {s wi : Nat} {μ : cM} {V : zW} {p w c op pa tu : Nat} {r : Option cO} (h : XOk st o n tx s wi μ V p w c op pa tu r) : ∃ (e : Nat) (μ' : cM) (V' : zW) (p' k m pa' : Nat), r = some (0, zr e, μ') ∧ XB o n tx s wi μ V p w c op pa tu e μ' V' p' k m pa' ∧ (∀ j, j < k → st ≤ stg (V'.2 943 (w + j))) ∧ nxOk st (nowOf tx n p') V' w k := by
  obtain ⟨e, μ', V', p', k, m, pa', hr, a1, a2, a3, h1, a4, a5, a6, a7, h2, a8, a9⟩ := h
  exact ⟨e, μ', V', p', k, m, pa', hr, ⟨a1, a2, a3, a4, a5, a6, a7, a8, a9⟩, h1, h2⟩
abbrev mu2 (o : Int) (μ1 : cM) (p1 : Nat) : cM := ((hS μ1 502 o ((p1 + 1 : Nat) : Int)).1, nst μ1.2 14 3)
abbrev V2 (V1 : zW) (w c k1 m1 p1 : Nat) (x : Int) : zW := us (us (ua (popd V1 (w + k1) (c + m1) k1) 943 w x) 942 ((w + 1 : Nat) : Int)) 903 ((p1 + 1 : Nat) : Int)
section B
variable {o : Int} {n : Nat} {tx : Nat → Int} {s wi : Nat} {μ : cM} {V : zW} {p w c op pa tu : Nat} {e1 : Nat} {μ1 : cM} {V1 : zW} {p1 k1 m1 pa1 : Nat}
/-- the operator is taken -/
theorem bin1 (L : XB o n tx s wi μ V p w c op pa tu e1 μ1 V1 p1 k1 m1 pa1) (ht : tu ≤ p) (hop : opc (nowOf tx n p1) ≠ -1) (hst : ∀ j, j < k1 → (if 2 ≤ stg (opc (nowOf tx n p1)) then stg (opc (nowOf tx n p1)) else 2) ≤ stg (V1.2 943 (w + j)))
    (htop : topW V w (if 2 ≤ stg (opc (nowOf tx n p1)) then stg (opc (nowOf tx n p1)) else 2)) (hno : stg (opc (nowOf tx n p1)) ≠ 1 ∨ w = 0 ∨ stg (V.2 943 (w - 1)) ≠ 1) :
    XC o (mu2 o μ1 p1) (V2 V1 w c k1 m1 p1 (opc (nowOf tx n p1))) n tx (p1 + 1) s (w + 1) (c + m1 + k1) op pa1 ∧ XL wi pa op 1 tu V = XL wi pa1 op 1 (tu + (p1 + 1 - p)) (V2 V1 w c k1 m1 p1 (opc (nowOf tx n p1))) ∧ cF o μ1 (mu2 o μ1 p1) 1 3 ∧ tF V1 (V2 V1 w c k1 m1 p1 (opc (nowOf tx n p1))) ∧ p1 < n := by
  obtain ⟨⟨a0, a1⟩, a2, a3, a4, a5, a6, a7, a8, a9⟩ := L
  obtain ⟨y1, y2, y3, y4, y5, y6, y7, y8, y9⟩ := id a2
  have hr := opc_rng hop
  have hp1 : p1 < n := now_lt (tx := tx) hr.2.2.2
  have hnow : nowOf (V1.2 902) n p1 = nowOf tx n p1 := now_eq y6
  have hstk : stk V1 (w + k1) k1 (if 2 ≤ stg (opc (nowOf tx n p1)) then stg (opc (nowOf tx n p1)) else 2) := by
    refine ⟨by omega, fun i hi => ?_, ?_⟩
    · have := hst (k1 - 1 - i) (by omega)
      rw [show w + (k1 - 1 - i) = w + k1 - 1 - i by omega] at this
      exact this
    · rcases htop with q | q
      · exact Or.inl (by omega)
      · by_cases hw : w = 0
        · exact Or.inl (by omega)
        · refine Or.inr ?_
          rw [show w + k1 - 1 - k1 = w - 1 by omega, a4 (w - 1) (by omega)]
          exact q
  have hX := XL_op y5 (wi := wi) (pa := pa1) (op := op) (tu := tu + (p1 - p)) (k := k1) (by omega) (by rw [hnow]; exact hop) (by rw [hnow]; exact hstk) (by
    rw [hnow]
    rcases hno with q | q | q
    · exact Or.inl q
    · exact Or.inr (Or.inl (by omega))
    · by_cases hw : w = 0
      · exact Or.inr (Or.inl (by omega))
      · refine Or.inr (Or.inr ?_)
        rw [show w + k1 - k1 - 1 = w - 1 by omega, a4 (w - 1) (by omega)]
        exact q)
  rw [hnow, show w + k1 - k1 = w by omega] at hX
  have hd : dF (fun _ => False) μ1.2 (nst μ1.2 14 3) 1 3 := nst_dF _ _ _ _
  refine ⟨⟨(y1.at' (p1 + 1) (by omega)).keep hd, ?_, ?_, y4, ?_, ?_, ?_, ?_, ?_⟩, ?_, ?_, ?_, hp1⟩
  · rw [hG_2, hG_S, if_neg (by simp)]; exact y2
  · rw [hG_2, hG_S, if_neg (by simp)]; exact y3
  · have := XI_op y5 hp1 (k := k1) (by omega) (opc (nowOf tx n p1))
    rw [show w + k1 - k1 = w by omega] at this
    exact this
  · intro i hi
    show (ua (popd V1 (w + k1) (c + m1) k1) 943 w (opc (nowOf tx n p1))).2 902 i = _
    rw [ua_a, if_neg (by simp), popd_a, if_neg (by simp)]; exact y6 i hi
  · intro i hi
    show μ1.1.2 2000 i ≠ 0 ↔ 0 ≤ (ua (popd V1 (w + k1) (c + m1) k1) 943 w (opc (nowOf tx n p1))).2 909 i ∨ 0 ≤ (ua (popd V1 (w + k1) (c + m1) k1) 943 w (opc (nowOf tx n p1))).2 910 i
    rw [ua_a, if_neg (by simp), popd_a, if_neg (by simp), ua_a, if_neg (by simp), popd_a, if_neg (by simp)]
    exact y7 i hi
  · show zN μ1.2 + 1 + (n - (p1 + 1)) + 8 ≤ zE μ1.2
    omega
  · show zU μ1.2 + 3 + 3 * (n - (p1 + 1)) + 40 ≤ _
    omega
  · rw [a3, hX, show tu + (p1 - p) + 1 = tu + (p1 + 1 - p) by omega]
  · exact ((cF.s (f := 502) (v := ((p1 + 1 : Nat) : Int)) (by omega)).trans (cF.d (μ := hS μ1 502 o ((p1 + 1 : Nat) : Int)) hd)).le (by omega) (by omega)
  · exact ((tF.pop.trans (tF.a (by omega))).trans (tF.s (by omega))).trans (tF.s (by omega))
/-- both sides are read -/
theorem bin2 (L : XB o n tx s wi μ V p w c op pa tu e1 μ1 V1 p1 k1 m1 pa1) {e2 : Nat} {μ3 : cM} {V3 : zW} {p3 k2 m2 pa3 : Nat} (hop : opc (nowOf tx n p1) ≠ -1)
    (B1 : XC o (mu2 o μ1 p1) (V2 V1 w c k1 m1 p1 (opc (nowOf tx n p1))) n tx (p1 + 1) s (w + 1) (c + m1 + k1) op pa1 ∧ XL wi pa op 1 tu V = XL wi pa1 op 1 (tu + (p1 + 1 - p)) (V2 V1 w c k1 m1 p1 (opc (nowOf tx n p1))) ∧ cF o μ1 (mu2 o μ1 p1) 1 3 ∧ tF V1 (V2 V1 w c k1 m1 p1 (opc (nowOf tx n p1))) ∧ p1 < n)
    (R : XB o n tx s wi (mu2 o μ1 p1) (V2 V1 w c k1 m1 p1 (opc (nowOf tx n p1))) (p1 + 1) (w + 1) (c + m1 + k1) op pa1 (tu + (p1 + 1 - p)) e2 μ3 V3 p3 k2 m2 pa3) :
    h_X14_init ((zN μ1.2 : Nat) : Int) (nowOf tx n p1) (e1 : Int) (e2 : Int) μ3 = some (0, (3, 0), (μ3.1, zsF (zsF (zsF μ3.2 1400 (zN μ1.2) (nowOf tx n p1)) 1401 (zN μ1.2) e1) 1402 (zN μ1.2) e2)) ∧
    XB o n tx s wi μ V p w c op pa tu (zN μ1.2) (μ3.1, zsF (zsF (zsF μ3.2 1400 (zN μ1.2) (nowOf tx n p1)) 1401 (zN μ1.2) e1) 1402 (zN μ1.2) e2) V3 p3 (1 + k2) (m1 + k1 + m2) pa3 ∧ V3.2 943 w = opc (nowOf tx n p1) := by
  obtain ⟨b1, b2, b3, b4, b5⟩ := B1
  obtain ⟨⟨a0, a1⟩, a2, a3, a4, a5, a6, a7, a8, a9⟩ := L
  obtain ⟨⟨r0, r1⟩, r2, r3, r4, r5, r6, r7, r8, r9⟩ := R
  obtain ⟨z1, z2, z3, z4, z5, z6, z7, z8, z9⟩ := id r2
  have hrng := nowOf_rng (isSt.rng a2.1.2.1) p1
  have hyN : zN μ1.2 < zN μ3.2 := by
    have := r8.1.2.1
    have e : zN (mu2 o μ1 p1).2 = zN μ1.2 + 1 := rfl
    omega
  have hk2' : zK (nst μ1.2 14 3) (zN μ1.2) = (15, 0) := if_pos rfl
  have hk3 : zK μ3.2 (zN μ1.2) = (15, 0) := by
    rw [(r8.1.2.2.2.2.2 (zN μ1.2) (by show zN μ1.2 < zN μ1.2 + 1; omega)).1]
    exact hk2'
  have hw : V3.2 943 w = opc (nowOf tx n p1) := by
    rw [r4 w (by omega)]
    show (ua (popd V1 (w + k1) (c + m1) k1) 943 w (opc (nowOf tx n p1))).2 943 w = _
    rw [ua_a, if_pos ⟨rfl, rfl⟩]
  have hd3 : dF (fun _ => False) μ1.2 (zsF (zsF (zsF μ3.2 1400 (zN μ1.2) (nowOf tx n p1)) 1401 (zN μ1.2) e1) 1402 (zN μ1.2) e2) (1 + (p3 - (p1 + 1))) (3 + 3 * (p3 - (p1 + 1))) := (((b3.1.trans r8.1).sFn (Nat.le_refl _)).sFn (Nat.le_refl _)).sFn (Nat.le_refl _)
  have h14 : zF μ3.2 1401 (zN μ1.2) = -1 := by
    rw [((r8.1.2.2.2.2.2 (zN μ1.2) (by show zN μ1.2 < zN μ1.2 + 1; omega)).2 (fun x => x)).1]
    show (if zN μ1.2 = zN μ1.2 then zdef (zft 1401) else _) = -1
    rw [if_pos rfl]
    rfl
  have hI2 : IsEx (zsF (zsF (zsF μ3.2 1400 (zN μ1.2) (nowOf tx n p1)) 1401 (zN μ1.2) e1) 1402 (zN μ1.2) e2) (2 * (pa3 - pa1)) e2 ((popd V3 (w + (1 + k2)) (c + (m1 + k1 + m2)) (1 + k2)).2 937) (c + m1 + k1) (c + m1 + k1 + m2 + k2) := by
    refine r6.keepY (y := zN μ1.2) (σ' := zsF (zsF (zsF μ3.2 1400 (zN μ1.2) (nowOf tx n p1)) 1401 (zN μ1.2) e1) 1402 (zN μ1.2) e2) (Nat.le_refl _) (fun _ _ => rfl) (fun a ha hne f => ?_) ⟨hk3, h14⟩ (fun i i1 i2 => ?_)
    · rw [zF_sF, if_neg (fun q => hne q.2), zF_sF, if_neg (fun q => hne q.2), zF_sF, if_neg (fun q => hne q.2)]
    · rw [popd_a, popd_a]
      by_cases q : c + m1 + k1 + m2 ≤ i
      · rw [if_pos ⟨rfl, by omega, by omega⟩, if_pos ⟨rfl, by omega, by omega⟩]
        rw [show w + (1 + k2) - 1 - (i - (c + (m1 + k1 + m2))) = w + 1 + k2 - 1 - (i - (c + m1 + k1 + m2)) by omega]
      · rw [if_neg (by omega), if_neg (by omega)]
  have hI1 : IsEx (zsF (zsF (zsF μ3.2 1400 (zN μ1.2) (nowOf tx n p1)) 1401 (zN μ1.2) e1) 1402 (zN μ1.2) e2) (2 * (pa1 - pa)) e1 ((popd V3 (w + (1 + k2)) (c + (m1 + k1 + m2)) (1 + k2)).2 937) c (c + m1 + k1) := by
    refine a6.keep hd3 (fun i i1 i2 => ?_)
    rw [popd_a, if_neg (by omega), r5 i (by omega)]
    show (ua (popd V1 (w + k1) (c + m1) k1) 943 w (opc (nowOf tx n p1))).2 937 i = _
    rw [ua_a, if_neg (by simp)]
  refine ⟨?_, ⟨⟨by omega, by omega⟩, ?_, ?_, ?_, ?_, ?_, by omega, ?_, ?_⟩, hw⟩
  · unfold h_X14_init h_J22_init
    rw [gdT (by simp), gdT (by simp), hcv_v, gdT (by unfold zch; simp; omega), pf_ok (by rw [hk3]; rfl), hup_s, Option.bind_some, pf_ok (by show zkf 1401 (zK μ3.2 (zN μ1.2)).1 = true; rw [hk3]; rfl), hup_s, Option.bind_some, pf_ok (by show zkf 1402 (zK μ3.2 (zN μ1.2)).1 = true; rw [hk3]; rfl), hup_s, Option.bind_some]
  · refine ⟨?_, z2, z3, z4, ?_, z6, z7, z8, z9⟩
    · obtain ⟨q1, q2, q3, q4, q5, q6⟩ := z1
      have hne : s ≠ zN μ1.2 := fun q => by
        have hks := q2.choose_spec.1
        rw [q, hk3] at hks
        cases hks
      refine ⟨q1, ?_, q3, q4, q5, fun va hva => q6 va ?_⟩
      · obtain ⟨va, t1, t2, t3, t4, t5, t6⟩ := q2
        refine ⟨va, t1, ?_, ?_, t4, t5, t6⟩
        · rw [zF_sF, if_neg (fun q => hne q.2), zF_sF, if_neg (fun q => hne q.2), zF_sF, if_neg (fun q => hne q.2)]; exact t2
        · rw [zF_sF, if_neg (fun q => hne q.2), zF_sF, if_neg (fun q => hne q.2), zF_sF, if_neg (fun q => hne q.2)]; exact t3
      · rw [zF_sF, if_neg (fun q => hne q.2), zF_sF, if_neg (fun q => hne q.2), zF_sF, if_neg (fun q => hne q.2)] at hva; exact hva
    · rw [show w + (1 + k2) = w + 1 + k2 by omega, show c + (m1 + k1 + m2) = c + m1 + k1 + m2 by omega]
      exact z5
  · rw [b2, r3, show tu + (p1 + 1 - p) + (p3 - (p1 + 1)) = tu + (p3 - p) by omega]
  · intro i hi
    rw [r4 i (by omega)]
    show (ua (popd V1 (w + k1) (c + m1) k1) 943 w (opc (nowOf tx n p1))).2 943 i = _
    rw [ua_a, if_neg (by omega), popd_a, if_neg (by simp)]
    exact a4 i hi
  · intro i hi
    rw [r5 i (by omega)]
    show (ua (popd V1 (w + k1) (c + m1) k1) 943 w (opc (nowOf tx n p1))).2 937 i = _
    rw [ua_a, if_neg (by simp), popd_a, if_neg (by omega)]
    exact a5 i hi
  · obtain ⟨D, hD⟩ : ∃ D, 2 * (pa3 - pa) = D + 1 := ⟨2 * (pa3 - pa) - 1, by omega⟩
    rw [hD]
    refine ⟨hyN, Or.inr (Or.inr ⟨hk3, e1, e2, c + m1 + k1, ?_, ?_, by omega, by omega, hI1.mono (by omega), ?_, ?_, ?_⟩)⟩
    · rw [zF_sF, if_neg (by simp), zF_sF, if_pos ⟨rfl, rfl⟩]
    · rw [zF_sF, if_pos ⟨rfl, rfl⟩]
    · rw [show c + (m1 + k1 + m2) + (1 + k2) - 1 = c + m1 + k1 + m2 + k2 by omega]
      exact hI2.mono (by omega)
    · rw [zF_sF, if_neg (by simp), zF_sF, if_neg (by simp), zF_sF, if_pos ⟨rfl, rfl⟩, popd_a, if_pos ⟨rfl, by omega, by omega⟩, show w + (1 + k2) - 1 - (c + (m1 + k1 + m2) + (1 + k2) - 1 - (c + (m1 + k1 + m2))) = w by omega]
      exact hw
    · rw [zF_sF, if_neg (by simp), zF_sF, if_neg (by simp), zF_sF, if_pos ⟨rfl, rfl⟩]
      exact hop
  · refine ⟨(a8.1.trans hd3).le (by omega) (by omega), ?_, fun f i q => ?_⟩
    · show μ3.1.2 = μ.1.2
      rw [r8.2.1]
      exact a8.2.1
    · show μ3.1.1 f i = _
      rw [r8.2.2 f i q, b3.2.2 f i q]
      exact a8.2.2 f i q
  · exact (a9.trans b4).trans r9
end B

set_option maxRecDepth 100000
/-! more rules of the view: arrays, the rest of the memory, calls, loops -/
section CX
variable {B : Nat} {τ : zM} {μ : cM} {α β : Type} {φ : β → α} {P : β → Prop}
theorem hR_none (φ : β → α) (P : β → Prop) : hR φ P none none := ⟨rfl, fun r hr => by cases hr⟩
theorem cwA0 {a : Nat} (h : akey (a - B) = 0) (i : Nat) : zA (cw B μ) a i = zA μ.2 a i := by
  show (if _ then _ else _) = _
  rw [if_neg (fun q => q.2 h)]
theorem cw_hA {b i : Nat} {v : Int} (hk : akey b ≠ 0) (hb : b < 95) : zsA (cw B μ) (B + b) i v = cw B (hA μ (akey b) i v) := by
  unfold zsA cw hA
  congr 2
  funext a' i'
  dsimp only
  by_cases h1 : a' = B + b
  · subst h1
    by_cases h2 : i' = i
    · rw [if_pos ⟨rfl, h2⟩]
      simp only [Nat.add_sub_cancel_left]
      rw [if_pos ⟨Nat.le_add_right _ _, hk⟩]
      simp [h2]
    · rw [if_neg (fun q => h2 q.2)]
      show (if B ≤ B + b ∧ akey (B + b - B) ≠ 0 then _ else _) = _
      simp only [Nat.add_sub_cancel_left]
      rw [if_pos ⟨Nat.le_add_right _ _, hk⟩, if_pos ⟨Nat.le_add_right _ _, hk⟩, if_neg (fun q => h2 q.2)]
  · rw [if_neg (fun q => h1 q.1)]
    show (if B ≤ a' ∧ akey (a' - B) ≠ 0 then _ else _) = _
    by_cases hc : B ≤ a' ∧ akey (a' - B) ≠ 0
    · rw [if_pos hc, if_pos hc]
      have hlt : a' - B < 95 := by
        rcases Nat.lt_or_ge (a' - B) 95 with h | h
        · exact h
        · exact absurd (aT4 _ h) hc.2
      rw [if_neg (fun q => h1 (by have := aT6 _ hlt _ hb hc.2 q.1; omega))]
    · rw [if_neg hc, if_neg hc]
theorem cak {f : Nat} {o : Int} (hf : carr f = true ∧ f ≠ 206 ∧ f ≠ 301) : akey (aoff f (cix f o)) = 10 * f + cix f o ∧ 10 * f + cix f o ≠ 0 ∧ aoff f (cix f o) < 95 := by
  have t := aT1 hf.1 (o.toNat % 12) (Nat.mod_lt _ (by decide))
  rw [← cixe] at t
  have h0 : f ≠ 0 := fun e => by rw [e] at hf; exact absurd hf.1 (by decide)
  refine ⟨?_, by omega, t.1⟩
  rcases t.2.2 with h | h | h
  · exact absurd h hf.2.1
  · exact absurd h hf.2.2
  · exact h
theorem cw_pa (h : cOK B τ μ.2) {f kd : Nat} {o i v : Int} (hf : (carr f = true ∧ f ≠ 206 ∧ f ≠ 301) ∧ akd f = kd) : zpa (cw B μ) kd (caa B f o) i v = (hpa μ f o i v).map (cw B) := by
  unfold zpa hpa
  rw [cKa h o hf.1.1]
  by_cases hi : 0 ≤ i ∧ i < alen f
  · obtain ⟨k1, k2, k3⟩ := cak (o := o) hf.1
    rw [if_pos hi, if_pos ⟨caap _ _ _, hf.2, hi.1, hi.2⟩, caae, cw_hA (by rw [k1]; exact k2) k3, k1]
    rfl
  · rw [if_neg hi, if_neg (fun q => hi q.2.2)]
    rfl
theorem hpa_ok {f : Nat} {o i v : Int} {μ' : cM} (e : hpa μ f o i v = some μ') : μ'.2 = μ.2 := by
  unfold hpa at e
  split at e
  · cases e; rfl
  · cases e
theorem he_pa (h : cOK B τ μ.2) {f kd : Nat} {o i v : Int} {k : zM → Option α} {k' : cM → Option β} (hf : (carr f = true ∧ f ≠ 206 ∧ f ≠ 301) ∧ akd f = kd) (kk : ∀ μ', cOK B τ μ'.2 → hR φ P (k (cw B μ')) (k' μ')) : hR φ P ((zpa (cw B μ) kd (caa B f o) i v).bind k) ((hpa μ f o i v).bind k') := by
  rw [cw_pa h hf]
  cases e : hpa μ f o i v with
  | none => exact hR_none φ P
  | some μ' => exact kk μ' (by rw [hpa_ok e]; exact h)
theorem he_pr (h : cOK B τ μ.2) {f kd : Nat} {o i v : Int} {k : zM → Option α} {k' : cM → Option β} (hf : (carr f = true ∧ f ≠ 206 ∧ f ≠ 301) ∧ akd f = kd) (kk : ∀ μ', cOK B τ μ'.2 → hR φ P (k (cw B μ')) (k' μ')) : hR φ P ((zpr (cw B μ) kd (caa B f o) i v).bind k) ((hpr μ f o i v).bind k') := by
  unfold zpr hpr
  rw [cwK, hf.2]
  by_cases hc : v = -1 ∨ 0 ≤ v ∧ zfit kd (zK μ.2 v.toNat).1 = true
  · rw [if_pos hc, if_pos hc]
    exact he_pa h hf kk
  · rw [if_neg hc, if_neg hc]
    exact hR_none φ P
theorem he_rt (h : cOK B τ μ.2) {p : Int} {k : Int → Option α} {k' : Int → Option β} (kk : ∀ q, q ≠ -1 → hR φ P (k (cad B 4 q)) (k' q)) : hR φ P ((zga (cw B μ) 107 (caa B 206 0) p).bind k) ((hrt p).bind k') := by
  have e : zga (cw B μ) 107 (caa B 206 0) p = (hrt p).map (cad B 4) := by
    unfold zga hrt
    rw [cKa h 0 (by decide)]
    by_cases hi : 0 ≤ p ∧ p < 4
    · rw [if_pos hi, if_pos ⟨caap _ _ _, rfl, hi.1, hi.2⟩, caae]
      show some (zA (cw B μ) (B + aoff 206 0) p.toNat) = some (cad B 4 p)
      rw [cwA0 (by rw [Nat.add_sub_cancel_left]; exact rT.2.1), h.2.2.2.1 _ (by omega)]
      unfold cad
      rw [show p.toNat % cni 4 = p.toNat from Nat.mod_eq_of_lt (by show p.toNat < 4; omega)]
    · rw [if_neg hi, if_neg (fun q => hi q.2.2)]
      rfl
  rw [e]
  unfold hrt
  split
  · rename_i hi
    exact kk p (by omega)
  · exact hR_none φ P
theorem he_qr (h : cOK B τ μ.2) {o p : Int} {k : Int → Option α} {k' : Int → Option β} (kk : ∀ q, hR φ P (k (cqa B o q)) (k' q)) : hR φ P ((zga (cw B μ) 110 (caa B 301 o) p).bind k) ((hqr p).bind k') := by
  have e : zga (cw B μ) 110 (caa B 301 o) p = (hqr p).map (cqa B o) := by
    unfold zga hqr
    rw [cKa h o (by decide)]
    by_cases hi : 0 ≤ p ∧ p < 8
    · rw [if_pos hi, if_pos ⟨caap _ _ _, rfl, hi.1, hi.2⟩, caae]
      show some (zA (cw B μ) (B + aoff 301 (o.toNat % 3)) p.toNat) = some (cqa B o p)
      have ho : o.toNat % 3 < 3 := Nat.mod_lt _ (by decide)
      rw [cwA0 (by rw [Nat.add_sub_cancel_left]; exact (qT _ ho 0 (by decide)).2.2.2), (h.2.2.2.2.1 _ _ ho (show p.toNat < 8 by omega)).1]
      unfold cqa
      rw [show p.toNat % 8 = p.toNat from Nat.mod_eq_of_lt (by omega)]
    · rw [if_neg hi, if_neg (fun q => hi q.2.2)]
      rfl
  rw [e]
  unfold hqr
  split
  · exact kk p
  · exact hR_none φ P
theorem cqae (B : Nat) (o k : Int) : (cqa B o k).toNat = B + qoff (o.toNat % 3) (k.toNat % 8) := Int.toNat_natCast _
theorem cqK (h : cOK B τ μ.2) (o k : Int) : zK (cw B μ) (cqa B o k).toNat = (101, 3) := by
  rw [cqae, cwK]
  exact (h.2.2.2.2.1 _ _ (Nat.mod_lt _ (by decide)) (Nat.mod_lt _ (by decide))).2
theorem he_gq (h : cOK B τ μ.2) {o p i : Int} {k : Int → Option α} {k' : Int → Option β} (kk : ∀ v, hR φ P (k v) (k' v)) : hR φ P ((zga (cw B μ) 101 (cqa B o p) i).bind k) ((hgq μ o p i).bind k') := by
  have e : zga (cw B μ) 101 (cqa B o p) i = hgq μ o p i := by
    unfold zga hgq
    rw [cqK h]
    by_cases hi : 0 ≤ i ∧ i < 3
    · rw [if_pos hi, if_pos ⟨Int.natCast_nonneg _, rfl, hi.1, hi.2⟩, cqae]
      show some (if _ then _ else _) = _
      rw [Nat.add_sub_cancel_left, if_pos ⟨Nat.le_add_right _ _, (qT _ (Nat.mod_lt _ (by decide)) _ (Nat.mod_lt _ (by decide))).2.1⟩]
    · rw [if_neg hi, if_neg (fun q => hi q.2.2)]
  rw [e]
  cases hgq μ o p i with
  | none => exact hR_none φ P
  | some v => exact kk v
theorem he_pq (h : cOK B τ μ.2) {o p i v : Int} {k : zM → Option α} {k' : cM → Option β} (kk : ∀ μ', cOK B τ μ'.2 → hR φ P (k (cw B μ')) (k' μ')) : hR φ P ((zpa (cw B μ) 101 (cqa B o p) i v).bind k) ((hpq μ o p i v).bind k') := by
  have e : zpa (cw B μ) 101 (cqa B o p) i v = (hpq μ o p i v).map (cw B) := by
    unfold zpa hpq
    rw [cqK h]
    have hq := qT _ (Nat.mod_lt o.toNat (show 0 < 3 by decide)) _ (Nat.mod_lt p.toNat (show 0 < 8 by decide))
    by_cases hi : 0 ≤ i ∧ i < 3
    · rw [if_pos hi, if_pos ⟨Int.natCast_nonneg _, rfl, hi.1, hi.2⟩, cqae, cw_hA hq.2.1 hq.1]
      rfl
    · rw [if_neg hi, if_neg (fun q => hi q.2.2)]
      rfl
  rw [e]
  unfold hpq
  split
  · exact kk _ h
  · exact hR_none φ P
/-- objects that are not fixed -/
theorem he_gd (f : Nat) {a : Int} {k : Int → Option α} {k' : Int → Option β} (hf : csk f = false) (kk : ∀ v, hR φ P (k v) (k' v)) : hR φ P ((zgf (cw B μ) f a).bind k) ((zgf μ.2 f a).bind k') := by
  have e : zgf (cw B μ) f a = zgf μ.2 f a := by
    unfold zgf
    rw [cwK]
    split
    · rw [cwFd hf]
    · rfl
  rw [e]
  cases zgf μ.2 f a with
  | none => exact hR_none φ P
  | some v => exact kk v
theorem cOK_of {s σ : zM} (h : cOK B τ σ) (hN : zN σ ≤ zN s) (hK : ∀ a, a < zN σ → zK s a = zK σ a) (hF : ∀ f a, f < 900 → a < zN σ → zF s f a = zF σ f a) (hA : ∀ a i, a < zN σ → (zK σ a).1 ≠ 104 → (zK σ a).1 ≠ 105 → zA s a i = zA σ a i) (hT : ∀ f a, a < zN σ → treg (zK σ a).1 = true → zF s f a = zF σ f a) : cOK B τ s := by
  obtain ⟨h1, h2, h3, h4, h5, h6, h7, h8⟩ := h
  refine ⟨fun c o hc hk => ?_, fun f o hf => ?_, fun f o hf => ?_, fun p hp => ?_, fun o k ho hk => ?_, by omega, by omega, fun a a1 a2 => ?_⟩
  · have hb : coff c (o % cni c) < 95 := by
      have := cob c hc (o % cni c) (mlt _ _) (by
        intro e
        apply hk
        revert e
        unfold ckd cni
        split <;> intro e <;> first | exact e | omega)
      rw [mm] at this
      exact this
    rw [hK _ (by omega)]
    exact h1 c o hc hk
  · obtain ⟨k0, k1⟩ := aob hf
    have q1 : coff (fcl f) (if f / 100 = 7 then 1 else o % cni (fcl f)) < 95 := by
      have := (k1 (o % cni (fcl f)) (mlt _ _)).1
      rw [mm] at this
      exact this
    have q2 : aoff f (if f / 100 = 7 then 0 else o % cni (f / 100)) < 95 := by
      have := (k1 (o % cni (f / 100)) (mlt _ _)).2.1
      rw [mm] at this
      exact this
    rw [hF _ _ k0 (by omega), hK _ (by omega)]
    exact h2 f o hf
  · obtain ⟨k0, k1⟩ := rob hf
    have q1 : coff (fcl f) (o % cni (fcl f)) < 95 := by
      have := k1 (o % cni (fcl f)) (mlt _ _)
      rw [mm] at this
      exact this
    rw [hF _ _ k0 (by omega)]
    exact h3 f o hf
  · have hk : zK σ (B + aoff 206 0) = (107, 4) := (h2 206 0 (by decide)).2
    have := rT.1
    rw [hA _ _ (by omega) (by rw [hk]; decide) (by rw [hk]; decide)]
    exact h4 p hp
  · have hk' : zK σ (B + aoff 301 o) = (110, 8) := by
      have := (h2 301 o (by decide)).2
      rw [show (if 301 / 100 = 7 then 0 else o % cni (301 / 100)) = o from Nat.mod_eq_of_lt ho] at this
      exact this
    have q := qT o ho k hk
    rw [hA _ _ (by omega) (by rw [hk']; decide) (by rw [hk']; decide), hK _ (by omega)]
    exact h5 o k ho hk
  · obtain ⟨g1, g2, g3, g4⟩ := h8 a a1 a2
    have ht : treg (zK σ a).1 = true := by rw [g2]; exact g1
    refine ⟨g1, by rw [hK a (by omega)]; exact g2, fun f => by rw [hT f a (by omega) ht]; exact g3 f, ?_⟩
    funext i
    have hn : (zK σ a).1 ≠ 104 ∧ (zK σ a).1 ≠ 105 := by
      constructor <;> intro e <;> rw [e] at ht <;> exact absurd ht (by decide)
    rw [hA a i (by omega) hn.1 hn.2, g4]
theorem he_pd (h : cOK B τ μ.2) (f : Nat) {a v : Int} {k : zM → Option α} {k' : cM → Option β} (hf : 1000 ≤ f ∧ f < 10000) (hs : csk f = false) (kk : ∀ μ', cOK B τ μ'.2 → hR φ P (k (cw B μ')) (k' μ')) : hR φ P ((zpf (cw B μ) f a v).bind k) ((hup μ (zpf μ.2 f a v)).bind k') := by
  have e : zpf (cw B μ) f a v = (hup μ (zpf μ.2 f a v)).map (cw B) := by
    unfold zpf hup
    rw [cwK]
    split
    · show some _ = some _
      congr 1
      unfold zsF cw
      congr 1
      funext f' a'
      dsimp only
      by_cases h1 : f' = f ∧ a' = a.toNat
      · rw [if_pos h1, if_neg (by rw [h1.1, hs]; simp)]
        exact (if_pos h1).symm
      · rw [if_neg h1]
        show (if _ then _ else _) = _
        split
        · rfl
        · exact (if_neg h1).symm
    · rfl
  rw [e]
  unfold hup zpf
  split
  · rename_i hz
    exact kk _ (cOK_of h (Nat.le_refl _) (fun a _ => rfl) (fun f' a' h1 h2 => by
      show (if f' = f ∧ a' = _ then v else _) = _
      rw [if_neg (fun q => by omega)]) (fun a i _ _ _ => rfl) (fun f' a' _ ht => by
      show (if f' = f ∧ a' = _ then v else _) = _
      rw [if_neg (fun q => by
        have hk := hz.2
        rw [← q.2] at hk
        unfold zkf at hk
        rw [if_neg (by omega)] at hk
        have hk' : (zK μ.2 a').1 = f / 100 + 1 := by simpa using hk
        rw [hk'] at ht
        simp only [treg, Bool.or_eq_true, beq_iff_eq] at ht
        omega)]))
  · exact hR_none φ P
theorem dyn0 (h : cOK B τ μ.2) {a k : Nat} (hk : (zK μ.2 a).1 = k) (h1 : k = 104 ∨ k = 105) (hB : B ≤ a) : akey (a - B) = 0 := by
  by_cases hz : akey (a - B) = 0
  · exact hz
  · exfalso
    have hlt : a - B < 95 := by
      rcases Nat.lt_or_ge (a - B) 95 with h | h
      · exact h
      · exact absurd (aT4 _ h) hz
    rcases aT5 _ hlt hz with ⟨_, q1, q2, _, q4, q5, q6, q7⟩ | ⟨q1, q2, q3⟩
    · have := (h.2.1 _ (akey (a - B) % 10) q1).2
      have e : (if akey (a - B) / 10 / 100 = 7 then 0 else akey (a - B) % 10 % cni (akey (a - B) / 10 / 100)) = akey (a - B) % 10 := by
        split
        · rename_i h7; rw [q4 h7]
        · rename_i h7; exact q5 h7
      rw [e, q2, show B + (a - B) = a by omega] at this
      rw [this] at hk
      rcases h1 with h1 | h1 <;> omega
    · have := (h.2.2.2.2.1 _ ((akey (a - B) - 20000) % 8) q2 (Nat.mod_lt _ (by decide))).2
      rw [q3, show B + (a - B) = a by omega] at this
      rw [this] at hk
      rcases h1 with h1 | h1 <;> omega
theorem cwAd (h : cOK B τ μ.2) {a k : Nat} (hk : (zK μ.2 a).1 = k) (h1 : k = 104 ∨ k = 105) (i : Nat) : zA (cw B μ) a i = zA μ.2 a i := by
  show (if _ then _ else _) = _
  by_cases hB : B ≤ a
  · rw [if_neg (fun q => q.2 (dyn0 h hk h1 hB))]
  · rw [if_neg (fun q => hB q.1)]
theorem he_gad (h : cOK B τ μ.2) {k : Nat} {a i : Int} {f : Int → Option α} {f' : Int → Option β} (h1 : k = 104 ∨ k = 105) (kk : ∀ v, hR φ P (f v) (f' v)) : hR φ P ((zga (cw B μ) k a i).bind f) ((zga μ.2 k a i).bind f') := by
  have e : zga (cw B μ) k a i = zga μ.2 k a i := by
    unfold zga
    rw [cwK]
    split
    · rename_i hc
      rw [cwAd h hc.2.1 h1]
    · rfl
  rw [e]
  cases zga μ.2 k a i with
  | none => exact hR_none φ P
  | some v => exact kk v
theorem he_lad {k : Nat} {a : Int} {f : Int → Option α} {f' : Int → Option β} (kk : ∀ v, hR φ P (f v) (f' v)) : hR φ P ((zla (cw B μ) k a).bind f) ((zla μ.2 k a).bind f') := by
  show hR φ P ((zla μ.2 k a).bind f) _
  cases zla μ.2 k a with
  | none => exact hR_none φ P
  | some v => exact kk v
/-- a step of the rest of the memory -/
theorem he_up {o o' : Option zM} {f : zM → Option α} {f' : cM → Option β} (e : o = (hup μ o').map (cw B)) (hc : ∀ s, o' = some s → cOK B τ s) (kk : ∀ μ', cOK B τ μ'.2 → hR φ P (f (cw B μ')) (f' μ')) : hR φ P (o.bind f) ((hup μ o').bind f') := by
  rw [e]
  cases h : o' with
  | none => exact hR_none φ P
  | some s => exact kk (μ.1, s) (hc s h)
theorem cw_arr (h : cOK B τ μ.2) {s : zM} {k a : Nat} (hk : (zK μ.2 a).1 = k) (h1 : k = 104 ∨ k = 105) (g : Nat → Int) (hs : s = (zF μ.2, fun a' i' => if a' = a then g i' else zA μ.2 a' i', μ.2.2.2)) : (zF (cw B μ), fun a' i' => if a' = a then g i' else zA (cw B μ) a' i', (cw B μ).2.2) = cw B (μ.1, s) ∧ cOK B τ s := by
  subst hs
  constructor
  · unfold cw
    congr 2
    funext a' i'
    dsimp only
    by_cases e : a' = a
    · subst e
      rw [if_pos rfl]
      by_cases hB : B ≤ a'
      · rw [if_neg (fun q => q.2 (dyn0 h hk h1 hB))]
        exact (if_pos rfl).symm
      · rw [if_neg (fun q => hB q.1)]
        exact (if_pos rfl).symm
    · rw [if_neg e]
      show (if _ then _ else _) = _
      split
      · rfl
      · exact (if_neg e).symm
  · refine cOK_of h (Nat.le_refl _) (fun _ _ => rfl) (fun _ _ _ _ => rfl) (fun a' i _ e1 e2 => ?_) (fun _ _ _ _ => rfl)
    show (if a' = a then _ else _) = _
    rw [if_neg (fun q => by subst q; rcases h1 with h1 | h1 <;> omega)]
theorem zpa_up (h : cOK B τ μ.2) {k : Nat} {a i v : Int} (h1 : k = 104 ∨ k = 105) : zpa (cw B μ) k a i v = (hup μ (zpa μ.2 k a i v)).map (cw B) ∧ ∀ s, zpa μ.2 k a i v = some s → cOK B τ s := by
  unfold zpa hup
  rw [cwK]
  split
  · rename_i hc
    have t := cw_arr h (s := zsA μ.2 a.toNat i.toNat v) hc.2.1 h1 (fun i' => if i' = i.toNat then v else zA μ.2 a.toNat i') (by
      unfold zsA
      congr 2
      funext a' i'
      by_cases e : a' = a.toNat
      · subst e
        by_cases e2 : i' = i.toNat <;> simp [e2]
      · simp [e])
    refine ⟨?_, fun s hs => by cases hs; exact t.2⟩
    show some _ = some _
    rw [← t.1]
    congr 1
    unfold zsA
    congr 2
    funext a' i'
    by_cases e : a' = a.toNat
    · subst e
      by_cases e2 : i' = i.toNat
      · simp [e2]
      · simp only [e2, and_false, if_false, if_true]
        exact cwAd h hc.2.1 h1 i'
    · simp [e]
  · exact ⟨rfl, fun s hs => by cases hs⟩
theorem he_pad (h : cOK B τ μ.2) {k : Nat} {a i v : Int} {f : zM → Option α} {f' : cM → Option β} (h1 : k = 104 ∨ k = 105) (kk : ∀ μ', cOK B τ μ'.2 → hR φ P (f (cw B μ')) (f' μ')) : hR φ P ((zpa (cw B μ) k a i v).bind f) ((hup μ (zpa μ.2 k a i v)).bind f') :=
  he_up (zpa_up h h1).1 (zpa_up h h1).2 kk
theorem he_prd (h : cOK B τ μ.2) {k : Nat} {a i v : Int} {f : zM → Option α} {f' : cM → Option β} (h1 : k = 104 ∨ k = 105) (kk : ∀ μ', cOK B τ μ'.2 → hR φ P (f (cw B μ')) (f' μ')) : hR φ P ((zpr (cw B μ) k a i v).bind f) ((hup μ (zpr μ.2 k a i v)).bind f') := by
  unfold zpr
  rw [cwK]
  split
  · exact he_pad h h1 kk
  · exact hR_none φ P
def zcpC (σ : zM) (k : Nat) (a0 sp a dp n : Int) : Prop := (0 ≤ a0 ∧ 0 ≤ a ∧ (zK σ a0.toNat).1 = k ∧ (zK σ a.toNat).1 = k) ∧ (0 ≤ sp ∧ 0 ≤ dp ∧ 0 ≤ n ∧ sp + n ≤ (zK σ a0.toNat).2 ∧ dp + n ≤ (zK σ a.toNat).2) ∧
    (k = 105 → ∀ i, i < n.toNat → zA σ a0.toNat (sp.toNat + i) = -1 ∨ (0 ≤ zA σ a0.toNat (sp.toNat + i) ∧ zfit 105 (zK σ (zA σ a0.toNat (sp.toNat + i)).toNat).1 = true))
theorem zcpT {σ : zM} {k : Nat} {a0 sp a dp n : Int} (h : zcpC σ k a0 sp a dp n) : zcp σ k a0 sp a dp n = some (zcpA σ a0.toNat sp.toNat a.toNat dp.toNat n.toNat) := by
  unfold zcp
  exact if_pos h
theorem zcpN {σ : zM} {k : Nat} {a0 sp a dp n : Int} (h : ¬ zcpC σ k a0 sp a dp n) : zcp σ k a0 sp a dp n = none := by
  unfold zcp
  exact if_neg h
theorem zcp_up (h : cOK B τ μ.2) {k : Nat} {a0 sp a dp n : Int} (h1 : k = 104 ∨ k = 105) : zcp (cw B μ) k a0 sp a dp n = (hup μ (zcp μ.2 k a0 sp a dp n)).map (cw B) ∧ ∀ s, zcp μ.2 k a0 sp a dp n = some s → cOK B τ s := by
  by_cases hk0 : (zK μ.2 a0.toNat).1 = k
  · have hA0 : zA (cw B μ) a0.toNat = zA μ.2 a0.toNat := by
      funext i
      exact cwAd h hk0 h1 i
    have hiff : zcpC (cw B μ) k a0 sp a dp n ↔ zcpC μ.2 k a0 sp a dp n := by
      unfold zcpC
      rw [hA0]
      exact Iff.rfl
    by_cases hc : zcpC μ.2 k a0 sp a dp n
    · have hk : (zK μ.2 a.toNat).1 = k := hc.1.2.2.2
      have t := cw_arr h (s := zcpA μ.2 a0.toNat sp.toNat a.toNat dp.toNat n.toNat) hk h1 (va_cpy (zA μ.2 a0.toNat) (zA μ.2 a.toNat) sp.toNat dp.toNat n.toNat) rfl
      have hA1 : zA (cw B μ) a.toNat = zA μ.2 a.toNat := by
        funext i
        exact cwAd h hk h1 i
      rw [zcpT hc, zcpT (hiff.mpr hc)]
      refine ⟨?_, fun s hs => by cases hs; exact t.2⟩
      show some _ = some _
      rw [← t.1]
      congr 1
      unfold zcpA
      rw [hA0, hA1]
    · rw [zcpN hc, zcpN (fun q => hc (hiff.mp q))]
      exact ⟨rfl, fun s hs => by cases hs⟩
  · rw [zcpN (σ := cw B μ) (fun q => hk0 q.1.2.2.1), zcpN (fun q => hk0 q.1.2.2.1)]
    exact ⟨rfl, fun s hs => by cases hs⟩
theorem he_cp (h : cOK B τ μ.2) {k : Nat} {a0 sp a dp n : Int} {f : zM → Option α} {f' : cM → Option β} (h1 : k = 104 ∨ k = 105) (kk : ∀ μ', cOK B τ μ'.2 → hR φ P (f (cw B μ')) (f' μ')) : hR φ P ((zcp (cw B μ) k a0 sp a dp n).bind f) ((hup μ (zcp μ.2 k a0 sp a dp n)).bind f') :=
  he_up (zcp_up h h1).1 (zcp_up h h1).2 kk
/-- a new cell -/
theorem cw_new (h : cOK B τ μ.2) (dF : Nat → Int) (dA : Nat → Int) (kc : Nat × Nat) (u : Nat) :
    ((fun f a => if a = zN μ.2 then dF f else zF (cw B μ) f a, fun a i => if a = zN μ.2 then dA i else zA (cw B μ) a i, fun a => if a = zN μ.2 then kc else zK μ.2 a, zN μ.2 + 1, u, zE μ.2) : zM) =
      cw B (μ.1, (fun f a => if a = zN μ.2 then dF f else zF μ.2 f a, fun a i => if a = zN μ.2 then dA i else zA μ.2 a i, fun a => if a = zN μ.2 then kc else zK μ.2 a, zN μ.2 + 1, u, zE μ.2)) ∧
    cOK B τ (fun f a => if a = zN μ.2 then dF f else zF μ.2 f a, fun a i => if a = zN μ.2 then dA i else zA μ.2 a i, fun a => if a = zN μ.2 then kc else zK μ.2 a, zN μ.2 + 1, u, zE μ.2) := by
  have hb : B + 95 ≤ zN μ.2 := h.2.2.2.2.2.1
  constructor
  · unfold cw
    congr 1
    · funext f a
      dsimp only
      by_cases e : a = zN μ.2
      · subst e
        rw [if_pos rfl, if_neg (fun q => by have := cT4 f (zN μ.2 - B) (by omega); omega)]
        exact (if_pos rfl).symm
      · rw [if_neg e]
        show (if _ then _ else _) = _
        split
        · rfl
        · exact (if_neg e).symm
    · congr 1
      funext a i
      dsimp only
      by_cases e : a = zN μ.2
      · subst e
        rw [if_pos rfl, if_neg (fun q => q.2 (aT4 _ (by omega)))]
        exact (if_pos rfl).symm
      · rw [if_neg e]
        show (if _ then _ else _) = _
        split
        · rfl
        · exact (if_neg e).symm
  · refine cOK_of h (by show _ ≤ zN μ.2 + 1; omega) (fun a ha => if_neg (by omega)) (fun f a _ ha => if_neg (by omega)) (fun a i ha _ _ => if_neg (by omega)) (fun f a ha _ => if_neg (by omega))
theorem fA_id (f : Nat → Nat → Int) (a0 : Nat) : (fun a i => if a = a0 then f a0 i else f a i) = f := by
  funext a i
  by_cases e : a = a0
  · subst e; rw [if_pos rfl]
  · rw [if_neg e]
theorem fF_id (f : Nat → Nat → Int) (a0 : Nat) : (fun g a => if a = a0 then f g a0 else f g a) = f := by
  funext g a
  by_cases e : a = a0
  · subst e; rw [if_pos rfl]
  · rw [if_neg e]
theorem cwA1 (h : cOK B τ μ.2) {a : Nat} (ha : B + 95 ≤ a) (i : Nat) : zA (cw B μ) a i = zA μ.2 a i := by
  show (if _ then _ else _) = _
  rw [if_neg (fun q => q.2 (aT4 _ (by omega)))]
theorem cwF1 (h : cOK B τ μ.2) {a : Nat} (ha : B + 95 ≤ a) (f : Nat) : zF (cw B μ) f a = zF μ.2 f a := by
  show (if _ then _ else _) = _
  rw [if_neg (fun q => by have := cT4 f (a - B) (by omega); omega)]
theorem he_nO (h : cOK B τ μ.2) {ci n : Nat} {f : zM → Option α} {f' : cM → Option β} (kk : ∀ μ', cOK B τ μ'.2 → hR φ P (f (cw B μ')) (f' μ')) : hR φ P ((znO (cw B μ) ci n).bind f) ((hup μ (znO μ.2 ci n)).bind f') := by
  have hb : B + 95 ≤ zN μ.2 := h.2.2.2.2.2.1
  have t := cw_new h (fun f => zdef (zft f)) (fun i => zA μ.2 (zN μ.2) i) (ci + 1, 0) (zU μ.2 + n)
  rw [fA_id] at t
  refine he_up (o := znO (cw B μ) ci n) ?_ (fun s hs => ?_) kk
  · unfold znO hup
    show (if zN μ.2 + 1 ≤ zE μ.2 ∧ zU μ.2 + n ≤ 7287785 then _ else _) = _
    split
    · show some _ = some _
      rw [← t.1]
      congr 3
      funext a i
      by_cases e : a = zN μ.2
      · subst e; rw [if_pos rfl]; exact cwA1 h hb i
      · rw [if_neg e]
    · rfl
  · unfold znO at hs
    split at hs
    · cases hs; exact t.2
    · cases hs
theorem he_nA (h : cOK B τ μ.2) {k : Nat} {n : Int} {f : zM → Option α} {f' : cM → Option β} (kk : ∀ μ', cOK B τ μ'.2 → hR φ P (f (cw B μ')) (f' μ')) : hR φ P ((znA (cw B μ) k n).bind f) ((hup μ (znA μ.2 k n)).bind f') := by
  have hb : B + 95 ≤ zN μ.2 := h.2.2.2.2.2.1
  have t := cw_new h (fun f => zF μ.2 f (zN μ.2)) (fun _ => zdef (zaty k)) (k, n.toNat) (zU μ.2 + n.toNat)
  rw [fF_id] at t
  refine he_up (o := znA (cw B μ) k n) ?_ (fun s hs => ?_) kk
  · unfold znA hup
    show (if 0 ≤ n ∧ n ≤ 1000000 ∧ zN μ.2 + 1 ≤ zE μ.2 ∧ zU μ.2 + n.toNat ≤ 7287785 then _ else _) = _
    split
    · show some _ = some _
      rw [← t.1]
      congr 2
      funext f a
      by_cases e : a = zN μ.2
      · subst e; rw [if_pos rfl]; exact cwF1 h hb f
      · rw [if_neg e]
    · rfl
  · unfold znA at hs
    split at hs
    · cases hs; exact t.2
    · cases hs
theorem he_nX (h : cOK B τ μ.2) {k : Nat} {f : zM → Option α} {f' : cM → Option β} (kk : ∀ μ', cOK B τ μ'.2 → hR φ P (f (cw B μ')) (f' μ')) : hR φ P ((znX (cw B μ) k).bind f) ((hup μ (znX μ.2 k)).bind f') := by
  have hb : B + 95 ≤ zN μ.2 := h.2.2.2.2.2.1
  have t := cw_new h (fun f => zF μ.2 f (zN μ.2)) (fun i => zA μ.2 (zN μ.2) i) (k, 0) (zU μ.2 + 6)
  rw [fF_id, fA_id] at t
  refine he_up (o := znX (cw B μ) k) ?_ (fun s hs => ?_) kk
  · unfold znX hup
    show (if zN μ.2 + 1 ≤ zE μ.2 ∧ zU μ.2 + 6 ≤ 7287785 then _ else _) = _
    split
    · show some _ = some _
      rw [← t.1]
      congr 2
      · funext f a
        by_cases e : a = zN μ.2
        · subst e; rw [if_pos rfl]; exact cwF1 h hb f
        · rw [if_neg e]
      · congr 1
        funext a i
        by_cases e : a = zN μ.2
        · subst e; rw [if_pos rfl]; exact cwA1 h hb i
        · rw [if_neg e]
    · rfl
  · unfold znX at hs
    split at hs
    · cases hs; exact t.2
    · cases hs
theorem he_cln (h : cOK B τ μ.2) {a : Int} {f : zM → Option α} {f' : cM → Option β} (kk : ∀ μ', cOK B τ μ'.2 → hR φ P (f (cw B μ')) (f' μ')) : hR φ P ((zcln (cw B μ) a).bind f) ((hup μ (zcln μ.2 a)).bind f') := by
  have hb : B + 95 ≤ zN μ.2 := h.2.2.2.2.2.1
  by_cases hk : (zK μ.2 a.toNat).1 = 104
  · have t := cw_new h (fun f => zF μ.2 f (zN μ.2)) (fun i => zA μ.2 a.toNat i) (104, (zK μ.2 a.toNat).2) (zU μ.2 + (zK μ.2 a.toNat).2)
    rw [fF_id] at t
    have hA0 : zA (cw B μ) a.toNat = zA μ.2 a.toNat := by
      funext i
      exact cwAd h hk (Or.inl rfl) i
    refine he_up (o := zcln (cw B μ) a) ?_ (fun s hs => ?_) kk
    · unfold zcln hup
      rw [hA0]
      show (if 0 ≤ a ∧ (zK μ.2 a.toNat).1 = 104 ∧ zN μ.2 + 1 ≤ zE μ.2 ∧ zU μ.2 + (zK μ.2 a.toNat).2 ≤ 7287785 then _ else _) = _
      split
      · show some _ = some _
        rw [← t.1]
        congr 2
        funext f a'
        by_cases e : a' = zN μ.2
        · subst e; rw [if_pos rfl]; exact cwF1 h hb f
        · rw [if_neg e]
      · rfl
    · unfold zcln at hs
      split at hs
      · cases hs; exact t.2
      · cases hs
  · have e1 : zcln (cw B μ) a = none := by
      unfold zcln
      rw [if_neg (fun q => hk q.2.1)]
    have e2 : zcln μ.2 a = none := by
      unfold zcln
      rw [if_neg (fun q => hk q.2.1)]
    rw [e1, e2]
    exact hR_none φ P
end CX

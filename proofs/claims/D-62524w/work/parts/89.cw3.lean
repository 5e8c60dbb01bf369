set_option maxRecDepth 100000
/-! the view: branches, calls, loops -/
def hp (B : Nat) (τ : zM) (o : cO) : Prop := cOK B τ o.2.2.2
section CY
variable {B : Nat} {τ : zM} {μ : cM} {α β : Type} {φ : β → α} {P : β → Prop}
theorem hx_if {c : Prop} [Decidable c] {a b : Option α} {a' b' : Option β} (k1 : hR φ P a a') (k2 : hR φ P b b') : hR φ P (if c then a else b) (if c then a' else b') := by
  split
  · exact k1
  · exact k2
theorem hx_let {e : Int} {k : Int → Option α} {k' : Int → Option β} (kk : ∀ x, hR φ P (k x) (k' x)) : hR φ P (zlet e k) (zlet e k') := kk e
theorem hx_gd {c : Bool} {a : Option α} {b : Option β} (kk : hR φ P a b) : hR φ P (zgd c a) (zgd c b) := by
  unfold zgd
  split
  · exact kk
  · exact hR_none φ P
theorem cis (h : cOK B τ μ.2) {c kd : Nat} {o : Int} (hk : ckd c (o.toNat % 12) = kd ∧ c < 9 ∧ kd ≠ 0) : zis (cw B μ) kd (cad B c o) = true := by
  unfold zis
  rw [cKc h hk.2.1 (by rw [hk.1]; exact hk.2.2), hk.1]
  simp [cadp]
theorem hx_is (h : cOK B τ μ.2) {c kd : Nat} {o : Int} {a : Option α} {b : Option β} (hk : ckd c (o.toNat % 12) = kd ∧ c < 9 ∧ kd ≠ 0) (kk : hR φ P a b) : hR φ P (zgd (zis (cw B μ) kd (cad B c o)) a) b := by
  unfold zgd
  rw [if_pos (cis h hk)]
  exact kk
theorem hx_is2 (h : cOK B τ μ.2) {o : Int} {a : Option α} {b : Option β} (kk : hR φ P a b) : hR φ P (zgd (zis (cw B μ) 7 (cad B 5 o) || zis (cw B μ) 8 (cad B 5 o)) a) b := by
  have e : (zis (cw B μ) 7 (cad B 5 o) || zis (cw B μ) 8 (cad B 5 o)) = true := by
    have hc : ckd 5 (o.toNat % 12) = 7 ∨ ckd 5 (o.toNat % 12) = 8 := by
      show 7 + o.toNat % 12 % 2 = 7 ∨ 7 + o.toNat % 12 % 2 = 8
      omega
    rcases hc with hc | hc
    · rw [cis h ⟨hc, by decide, by decide⟩]; rfl
    · rw [cis (kd := 8) h ⟨hc, by decide, by decide⟩, Bool.or_true]
  unfold zgd
  rw [if_pos e]
  exact kk
theorem hx_dec {c : Nat} {o : Int} {a : Option α} {b : Option β} (kk : hR φ P a b) : hR φ P (zgd (decide (0 ≤ cad B c o)) a) b := by
  unfold zgd
  rw [if_pos (by simp [cadp])]
  exact kk
theorem radr_ne {p : Int} (h : p ≠ -1) : radr B p = cad B 4 p := if_neg h
theorem hx_nnG {f : Nat} {p : Int} {k : Int → Option α} {k' : Int → Option β} (kk : p ≠ -1 → hR φ P ((zgf (cw B μ) f (radr B p)).bind k) (k' p)) : hR φ P ((zgf (cw B μ) f (radr B p)).bind k) ((hnn p).bind k') := by
  by_cases h : p = -1
  · subst h
    exact hR_none φ P
  · unfold hnn
    rw [if_neg h]
    exact kk h
theorem hx_nnP {f : Nat} {p v : Int} {k : zM → Option α} {k' : Int → Option β} (kk : p ≠ -1 → hR φ P ((zpf (cw B μ) f (radr B p) v).bind k) (k' p)) : hR φ P ((zpf (cw B μ) f (radr B p) v).bind k) ((hnn p).bind k') := by
  by_cases h : p = -1
  · subst h
    exact hR_none φ P
  · unfold hnn
    rw [if_neg h]
    exact kk h
theorem hx_nnI {kd : Nat} {p : Int} {a : Option α} {k' : Int → Option β} (kk : p ≠ -1 → hR φ P (zgd (zis (cw B μ) kd (radr B p)) a) (k' p)) : hR φ P (zgd (zis (cw B μ) kd (radr B p)) a) ((hnn p).bind k') := by
  by_cases h : p = -1
  · subst h
    exact hR_none φ P
  · unfold hnn
    rw [if_neg h]
    exact kk h
theorem hx_some {a : α} {b : β} (e : a = φ b) (p : P b) : hR φ P (some a) (some b) := by
  rw [e]; exact ⟨rfl, fun r hr => by cases hr; exact p⟩
theorem hx_map {γ δ : Type} {ψ : δ → γ} {Q : δ → Prop} {o : Option γ} {o' : Option δ} {g : γ → α} {g' : δ → β} (h : hR ψ Q o o') (e : ∀ r, φ (g' r) = g (ψ r)) (q : ∀ r, Q r → P (g' r)) : hR φ P (o.map g) (o'.map g') := by
  obtain ⟨h1, h2⟩ := h
  rw [h1]
  cases o' with
  | none => exact hR_none φ P
  | some r => exact ⟨congrArg some (e r).symm, fun r' hr => by cases hr; exact q r (h2 r rfl)⟩
theorem hx_c {o : Option zO} {o' : Option cO} (h : hR (hf B) (hp B τ) o o') : (o = none ∧ o' = none) ∨ ∃ n v μ', o' = some (n, v, μ') ∧ o = some (n, v, cw B μ') ∧ cOK B τ μ'.2 := by
  obtain ⟨h1, h2⟩ := h
  cases o' with
  | none => exact Or.inl ⟨h1, rfl⟩
  | some r => exact Or.inr ⟨r.1, r.2.1, r.2.2, rfl, h1, h2 r rfl⟩
theorem hx_ci {o : Option zO} {o' : Option cO} {k : Int → zM → Option α} {k' : Int → cM → Option β} (h : hR (hf B) (hp B τ) o o') (kk : ∀ v μ', cOK B τ μ'.2 → hR φ P (k v (cw B μ')) (k' v μ')) : hR φ P (zci o k) (hci o' k') := by
  rcases hx_c h with ⟨e1, e2⟩ | ⟨n, v, μ', e2, e1, hc⟩ <;> rw [e1, e2]
  · exact hR_none φ P
  · match n, v with
    | 0, (0, v) => exact kk v μ' hc
    | 0, (t + 1, v) => exact hR_none φ P
    | n + 1, v => exact hR_none φ P
theorem hx_cj {o : Option zO} {o' : Option cO} {k : Int → zM → Option α} {k' : Int → cM → Option β} (h : hR (hf B) (hp B τ) o o') (kk : ∀ v μ', cOK B τ μ'.2 → hR φ P (k v (cw B μ')) (k' v μ')) : hR φ P (zcj o k) (hcj o' k') := by
  rcases hx_c h with ⟨e1, e2⟩ | ⟨n, v, μ', e2, e1, hc⟩ <;> rw [e1, e2]
  · exact hR_none φ P
  · match n, v with
    | 0, (1, v) => exact kk v μ' hc
    | 0, (0, v) => exact hR_none φ P
    | 0, (t + 2, v) => exact hR_none φ P
    | n + 1, v => exact hR_none φ P
theorem hx_cr {o : Option zO} {o' : Option cO} {k : Int → zM → Option α} {k' : Int → cM → Option β} (h : hR (hf B) (hp B τ) o o') (kk : ∀ v μ', cOK B τ μ'.2 → hR φ P (k v (cw B μ')) (k' v μ')) : hR φ P (zcr o k) (hcr o' k') := by
  rcases hx_c h with ⟨e1, e2⟩ | ⟨n, v, μ', e2, e1, hc⟩ <;> rw [e1, e2]
  · exact hR_none φ P
  · match n, v with
    | 0, (2, v) => exact kk v μ' hc
    | 0, (0, v) => exact hR_none φ P
    | 0, (1, v) => exact hR_none φ P
    | 0, (t + 3, v) => exact hR_none φ P
    | n + 1, v => exact hR_none φ P
theorem zcv_eq {γ : Type} (o : Option zO) (k : zM → Option γ) : zcv o k = match o with
    | some (0, v, σ) => if v = (3, 0) then k σ else none
    | _ => none := by
  unfold zcv
  split
  · simp
  · rename_i h
    split
    · rename_i v σ
      split
      · rename_i e
        subst e
        exact absurd rfl (h σ)
      · rfl
    · rfl
theorem hcv_eq {γ : Type} (o : Option cO) (k : cM → Option γ) : hcv o k = match o with
    | some (0, v, μ) => if v = (3, 0) then k μ else none
    | _ => none := by
  unfold hcv
  split
  · simp
  · rename_i h
    split
    · rename_i v μ
      split
      · rename_i e
        subst e
        exact absurd rfl (h μ)
      · rfl
    · rfl
theorem hx_cv {o : Option zO} {o' : Option cO} {k : zM → Option α} {k' : cM → Option β} (h : hR (hf B) (hp B τ) o o') (kk : ∀ μ', cOK B τ μ'.2 → hR φ P (k (cw B μ')) (k' μ')) : hR φ P (zcv o k) (hcv o' k') := by
  rw [zcv_eq, hcv_eq]
  rcases hx_c h with ⟨e1, e2⟩ | ⟨n, v, μ', e2, e1, hc⟩ <;> rw [e1, e2]
  · exact hR_none φ P
  · match n with
    | 0 =>
      show hR φ P (if v = (3, 0) then _ else _) (if v = (3, 0) then _ else _)
      split
      · exact kk μ' hc
      · exact hR_none φ P
    | n + 1 => exact hR_none φ P
theorem hx_ciT {o : Option zO} {o' : Option cO} {t : Nat → Int → zM → Option α} {t' : Nat → Int → cM → Option β} {k : Int → zM → Option α} {k' : Int → cM → Option β} (h : hR (hf B) (hp B τ) o o') (kt : ∀ n a μ', cOK B τ μ'.2 → hR φ P (t n a (cw B μ')) (t' n a μ')) (kk : ∀ v μ', cOK B τ μ'.2 → hR φ P (k v (cw B μ')) (k' v μ')) : hR φ P (zciT o t k) (hciT o' t' k') := by
  rcases hx_c h with ⟨e1, e2⟩ | ⟨n, v, μ', e2, e1, hc⟩ <;> rw [e1, e2]
  · exact hR_none φ P
  · match n, v with
    | 0, (0, v) => exact kk v μ' hc
    | 0, (t + 1, v) => exact hR_none φ P
    | n + 1, (2, v) => exact kt n v μ' hc
    | n + 1, (0, v) => exact hR_none φ P
    | n + 1, (1, v) => exact hR_none φ P
    | n + 1, (u + 3, v) => exact hR_none φ P
theorem hx_cjT {o : Option zO} {o' : Option cO} {t : Nat → Int → zM → Option α} {t' : Nat → Int → cM → Option β} {k : Int → zM → Option α} {k' : Int → cM → Option β} (h : hR (hf B) (hp B τ) o o') (kt : ∀ n a μ', cOK B τ μ'.2 → hR φ P (t n a (cw B μ')) (t' n a μ')) (kk : ∀ v μ', cOK B τ μ'.2 → hR φ P (k v (cw B μ')) (k' v μ')) : hR φ P (zcjT o t k) (hcjT o' t' k') := by
  rcases hx_c h with ⟨e1, e2⟩ | ⟨n, v, μ', e2, e1, hc⟩ <;> rw [e1, e2]
  · exact hR_none φ P
  · match n, v with
    | 0, (1, v) => exact kk v μ' hc
    | 0, (0, v) => exact hR_none φ P
    | 0, (t + 2, v) => exact hR_none φ P
    | n + 1, (2, v) => exact kt n v μ' hc
    | n + 1, (0, v) => exact hR_none φ P
    | n + 1, (1, v) => exact hR_none φ P
    | n + 1, (u + 3, v) => exact hR_none φ P
theorem hx_crT {o : Option zO} {o' : Option cO} {t : Nat → Int → zM → Option α} {t' : Nat → Int → cM → Option β} {k : Int → zM → Option α} {k' : Int → cM → Option β} (h : hR (hf B) (hp B τ) o o') (kt : ∀ n a μ', cOK B τ μ'.2 → hR φ P (t n a (cw B μ')) (t' n a μ')) (kk : ∀ v μ', cOK B τ μ'.2 → hR φ P (k v (cw B μ')) (k' v μ')) : hR φ P (zcrT o t k) (hcrT o' t' k') := by
  rcases hx_c h with ⟨e1, e2⟩ | ⟨n, v, μ', e2, e1, hc⟩ <;> rw [e1, e2]
  · exact hR_none φ P
  · match n, v with
    | 0, (2, v) => exact kk v μ' hc
    | 0, (0, v) => exact hR_none φ P
    | 0, (1, v) => exact hR_none φ P
    | 0, (t + 3, v) => exact hR_none φ P
    | n + 1, (2, v) => exact kt n v μ' hc
    | n + 1, (0, v) => exact hR_none φ P
    | n + 1, (1, v) => exact hR_none φ P
    | n + 1, (u + 3, v) => exact hR_none φ P
theorem zcvT_eq {γ : Type} (o : Option zO) (t : Nat → Int → zM → Option γ) (k : zM → Option γ) : zcvT o t k = match o with
    | some (0, v, σ) => if v = (3, 0) then k σ else none
    | some (n + 1, v, σ) => if v.1 = 2 then t n v.2 σ else none
    | _ => none := by
  unfold zcvT
  split
  · simp
  · simp
  · rename_i h1 h2
    split
    · rename_i v σ
      split
      · rename_i e
        subst e
        exact absurd rfl (h1 σ)
      · rfl
    · rename_i n v σ
      split
      · rename_i e
        obtain ⟨v1, v2⟩ := v
        dsimp only at e
        subst e
        exact absurd rfl (h2 n v2 σ)
      · rfl
    · rfl
theorem hcvT_eq {γ : Type} (o : Option cO) (t : Nat → Int → cM → Option γ) (k : cM → Option γ) : hcvT o t k = match o with
    | some (0, v, σ) => if v = (3, 0) then k σ else none
    | some (n + 1, v, σ) => if v.1 = 2 then t n v.2 σ else none
    | _ => none := by
  unfold hcvT
  split
  · simp
  · simp
  · rename_i h1 h2
    split
    · rename_i v σ
      split
      · rename_i e
        subst e
        exact absurd rfl (h1 σ)
      · rfl
    · rename_i n v σ
      split
      · rename_i e
        obtain ⟨v1, v2⟩ := v
        dsimp only at e
        subst e
        exact absurd rfl (h2 n v2 σ)
      · rfl
    · rfl
theorem hx_cvT {o : Option zO} {o' : Option cO} {t : Nat → Int → zM → Option α} {t' : Nat → Int → cM → Option β} {k : zM → Option α} {k' : cM → Option β} (h : hR (hf B) (hp B τ) o o') (kt : ∀ n a μ', cOK B τ μ'.2 → hR φ P (t n a (cw B μ')) (t' n a μ')) (kk : ∀ μ', cOK B τ μ'.2 → hR φ P (k (cw B μ')) (k' μ')) : hR φ P (zcvT o t k) (hcvT o' t' k') := by
  rw [zcvT_eq, hcvT_eq]
  rcases hx_c h with ⟨e1, e2⟩ | ⟨n, v, μ', e2, e1, hc⟩ <;> rw [e1, e2]
  · exact hR_none φ P
  · match n with
    | 0 =>
      dsimp only
      split
      · exact kk μ' hc
      · exact hR_none φ P
    | n + 1 =>
      dsimp only
      split
      · exact kt n v.2 μ' hc
      · exact hR_none φ P
theorem hx_iter {S S' R R' : Type} {φ : S' → S} {Ps : S' → Prop} {ψ : R' → R} {Pr : R' → Prop} {b : S → Option (S ⊕ R)} {b' : S' → Option (S' ⊕ R')} (hb : ∀ s, Ps s → hR (Sum.map φ ψ) (Sum.elim Ps Pr) (b (φ s)) (b' s)) : ∀ (n : Nat) (s : S'), Ps s → ziter b n (φ s) = (ziter b' n s).map ψ ∧ ∀ r, ziter b' n s = some r → Pr r := by
  intro n
  induction n with
  | zero => intro s _; exact ⟨rfl, fun r hr => by cases hr⟩
  | succ n ih =>
    intro s hs
    unfold ziter
    obtain ⟨e, q⟩ := hb s hs
    rw [e]
    cases hx : b' s with
    | none => exact ⟨rfl, fun r hr => by cases hr⟩
    | some x =>
      cases x with
      | inl s' => exact ih s' (q _ hx)
      | inr r => exact ⟨rfl, fun r' hr => by cases hr; exact q _ hx⟩
theorem hx_loop {S S' R R' : Type} {φ : S' → S} {Ps : S' → Prop} {ψ : R' → R} {Pr : R' → Prop} {b : S → Option (S ⊕ R)} {b' : S' → Option (S' ⊕ R')} {s : S'} (hs : Ps s) (hb : ∀ s, Ps s → hR (Sum.map φ ψ) (Sum.elim Ps Pr) (b (φ s)) (b' s)) : hR ψ Pr (zloop b (φ s)) (zloop b' s) := by
  constructor
  · cases h : zloop b' s with
    | some r =>
      obtain ⟨n, hn⟩ := zloop_some.mp h
      refine zloop_some.mpr ⟨n, ?_⟩
      rw [(hx_iter hb n s hs).1, hn]
      rfl
    | none =>
      cases h2 : zloop b (φ s) with
      | none => rfl
      | some r =>
        obtain ⟨n, hn⟩ := zloop_some.mp h2
        rw [(hx_iter hb n s hs).1] at hn
        cases h3 : ziter b' n s with
        | none => rw [h3] at hn; cases hn
        | some r' =>
          rw [zloop_some.mpr ⟨n, h3⟩] at h
          cases h
  · intro r hr
    obtain ⟨n, hn⟩ := zloop_some.mp hr
    exact (hx_iter hb n s hs).2 r hn
end CY

set_option maxRecDepth 100000
/-! reading and writing objects that are not fixed; texts -/
theorem gf_ok {σ : zM} {f a : Nat} (h : zkf f (zK σ a).1 = true) : zgf σ f (a : Int) = some (zF σ f a) := by
  unfold zgf
  rw [Int.toNat_natCast, if_pos ⟨Int.natCast_nonneg a, h⟩]
theorem pf_ok {σ : zM} {f a : Nat} {v : Int} (h : zkf f (zK σ a).1 = true) : zpf σ f (a : Int) v = some (zsF σ f a v) := by
  unfold zpf
  rw [Int.toNat_natCast, if_pos ⟨Int.natCast_nonneg a, h⟩]
theorem ga_ok {σ : zM} {k n a i : Nat} (h : zK σ a = (k, n)) (hi : i < n) : zga σ k (a : Int) (i : Int) = some (zA σ a i) := by
  unfold zga
  rw [Int.toNat_natCast, Int.toNat_natCast, h, if_pos ⟨Int.natCast_nonneg a, rfl, Int.natCast_nonneg i, by exact_mod_cast hi⟩]
theorem pa_ok {σ : zM} {k n a i : Nat} {v : Int} (h : zK σ a = (k, n)) (hi : i < n) : zpa σ k (a : Int) (i : Int) v = some (zsA σ a i v) := by
  unfold zpa
  rw [Int.toNat_natCast, Int.toNat_natCast, h, if_pos ⟨Int.natCast_nonneg a, rfl, Int.natCast_nonneg i, by exact_mod_cast hi⟩]
theorem la_ok {σ : zM} {k n a : Nat} (h : zK σ a = (k, n)) : zla σ k (a : Int) = some (n : Int) := by
  unfold zla
  rw [Int.toNat_natCast, h, if_pos ⟨Int.natCast_nonneg a, rfl⟩]
theorem is_ok {σ : zM} {k n a : Nat} (h : zK σ a = (k, n)) : zis σ k (a : Int) = true := by
  unfold zis
  rw [Int.toNat_natCast, h]
  simp
theorem gdT {α : Type} {b : Bool} {k : Option α} (h : b = true) : zgd b k = k := by
  unfold zgd
  rw [if_pos h]
theorem hci_i {α : Type} {v : Int} {μ : cM} {k : Int → cM → Option α} : hci (some (0, zi v, μ)) k = k v μ := rfl
theorem hcr_r {α : Type} {v : Int} {μ : cM} {k : Int → cM → Option α} : hcr (some (0, zr v, μ)) k = k v μ := rfl
theorem hcj_j {α : Type} {v : Int} {μ : cM} {k : Int → cM → Option α} : hcj (some (0, zj v, μ)) k = k v μ := rfl
theorem hcv_v {α : Type} {μ : cM} {k : cM → Option α} : hcv (some (0, (3, 0), μ)) k = k μ := rfl
theorem hup_s {μ : cM} {s : zM} : hup μ (some s) = some (μ.1, s) := rfl
/-- a text's builder: n signs c -/
def isSB (σ : zM) (b n : Nat) (c : Nat → Int) : Prop := ∃ va cap : Nat, zK σ b = (21, 0) ∧ zF σ 2000 b = va ∧ zF σ 2001 b = 0 ∧ zF σ 2003 b = n ∧ zK σ va = (104, cap) ∧ n ≤ cap ∧ cap ≤ 600 ∧ ∀ i, i < n → zA σ va i = c i
/-- a text: n signs c -/
def isSt (σ : zM) (s n : Nat) (c : Nat → Int) : Prop := ∃ va : Nat, zK σ s = (22, 0) ∧ zF σ 2100 s = va ∧ zF σ 2101 s = 0 ∧ zK σ va = (104, n) ∧ n ≤ 240 ∧ ∀ i, i < n → zA σ va i = c i ∧ 0 ≤ c i ∧ c i < 128
/-- nothing of what was there is changed but what W names; so many cells and slots more -/
def dF (W : Nat → Prop) (σ σ' : zM) (c u : Nat) : Prop := zE σ' = zE σ ∧ zN σ ≤ zN σ' ∧ zN σ' ≤ zN σ + c ∧ zU σ ≤ zU σ' ∧ zU σ' ≤ zU σ + u ∧ ∀ a, a < zN σ → zK σ' a = zK σ a ∧ (¬ W a → (∀ f, zF σ' f a = zF σ f a) ∧ zA σ' a = zA σ a)
theorem dF.refl (W : Nat → Prop) (σ : zM) (c u : Nat) : dF W σ σ c u := ⟨rfl, Nat.le_refl _, by omega, Nat.le_refl _, by omega, fun a _ => ⟨rfl, fun _ => ⟨fun _ => rfl, rfl⟩⟩⟩
theorem dF.trans {W : Nat → Prop} {σ σ' σ'' : zM} {c u c' u' : Nat} (h : dF W σ σ' c u) (h' : dF W σ' σ'' c' u') : dF W σ σ'' (c + c') (u + u') := by
  obtain ⟨a1, a2, a3, a4, a5, a6⟩ := h
  obtain ⟨b1, b2, b3, b4, b5, b6⟩ := h'
  refine ⟨b1.trans a1, by omega, by omega, by omega, by omega, fun a ha => ?_⟩
  have x := a6 a ha
  have y := b6 a (by omega)
  exact ⟨y.1.trans x.1, fun hW => ⟨fun f => ((y.2 hW).1 f).trans ((x.2 hW).1 f), (y.2 hW).2.trans (x.2 hW).2⟩⟩
theorem dF.sF {W : Nat → Prop} {σ : zM} {f a : Nat} {v : Int} (h : W a) : dF W σ (zsF σ f a v) 0 0 := by
  refine ⟨rfl, Nat.le_refl _, Nat.le_refl _, Nat.le_refl _, Nat.le_refl _, fun x hx => ⟨rfl, fun hW => ⟨fun g => ?_, rfl⟩⟩⟩
  show (if g = f ∧ x = a then v else zF σ g x) = _
  rw [if_neg (fun q => hW (by rw [q.2]; exact h))]
theorem dF.sA {W : Nat → Prop} {σ : zM} {a i : Nat} {v : Int} (h : W a) : dF W σ (zsA σ a i v) 0 0 := by
  refine ⟨rfl, Nat.le_refl _, Nat.le_refl _, Nat.le_refl _, Nat.le_refl _, fun x hx => ⟨rfl, fun hW => ⟨fun g => rfl, ?_⟩⟩⟩
  funext j
  show (if x = a ∧ j = i then v else zA σ x j) = _
  rw [if_neg (fun q => hW (by rw [q.1]; exact h))]
section J
variable {μ : cM}
theorem isL1 {b : Nat} {σ : zM} {v : cV} (h : zkf 2001 (zK σ b).1 = true) (h2 : zF σ 2001 b = 0) : h_J0_isLatin1 (b : Int) (v, σ) = some (0, zi 1, (v, σ)) := by
  unfold h_J0_isLatin1
  rw [if_neg (by decide), gf_ok h, Option.bind_some, h2, if_neg (by simp)]
  rfl
theorem sb_len {b n : Nat} {c : Nat → Int} (h : isSB μ.2 b n c) : h_J1_length (b : Int) μ = some (0, zi n, μ) := by
  obtain ⟨va, cap, k1, k2, k3, k4, k5, k6, k7, k8⟩ := h
  unfold h_J1_length h_J0_length
  rw [gdT (is_ok k1), gf_ok (by rw [k1]; rfl), Option.bind_some, k4]
  rfl
theorem canEnc {c : Int} (h : c ≤ 255) : h_J15_canEncode c μ = some (0, zi 1, μ) := by
  unfold h_J15_canEncode
  rw [if_neg (by omega)]
  rfl
end J
def SBx (σ : zM) (b n : Nat) (c : Nat → Int) (va cap : Nat) : Prop := zK σ b = (21, 0) ∧ zF σ 2000 b = va ∧ zF σ 2001 b = 0 ∧ zF σ 2003 b = n ∧ zK σ va = (104, cap) ∧ n ≤ cap ∧ cap ≤ 600 ∧ ∀ i, i < n → zA σ va i = c i
theorem zF_sF {σ : zM} {f a g b : Nat} {v : Int} : zF (zsF σ f a v) g b = if g = f ∧ b = a then v else zF σ g b := rfl
theorem zF_sA {σ : zM} {a i : Nat} {v : Int} {g b : Nat} : zF (zsA σ a i v) g b = zF σ g b := rfl
theorem zA_sF {σ : zM} {f a : Nat} {v : Int} {b j : Nat} : zA (zsF σ f a v) b j = zA σ b j := rfl
theorem zA_sA {σ : zM} {a i b j : Nat} {v : Int} : zA (zsA σ a i v) b j = if b = a ∧ j = i then v else zA σ b j := rfl
theorem nA_ok {σ : zM} {k n : Nat} (h1 : n ≤ 1000000) (h2 : zN σ + 1 ≤ zE σ) (h3 : zU σ + n ≤ 7287785) : znA σ k (n : Int) = some (zF σ, fun a i => if a = zN σ then zdef (zaty k) else zA σ a i, fun a => if a = zN σ then (k, n) else zK σ a, zN σ + 1, zU σ + n, zE σ) := by
  unfold znA
  rw [Int.toNat_natCast, if_pos ⟨Int.natCast_nonneg n, by omega, h2, h3⟩]
theorem newCap {b n va : Nat} {c : Nat → Int} {μ : cM} (h : SBx μ.2 b n c va n) (hn : n < 240) : h_J0_newCapacity (b : Int) ((n + 1 : Nat) : Int) μ = some (0, zi ((2 * n + 2 : Nat) : Int), μ) := by
  obtain ⟨k1, k2, k3, k4, k5, k6, k7, k8⟩ := h
  have e0 : zshl ((n + 1 : Nat) : Int) 0 = ((n + 1 : Nat) : Int) := by
    have := zshl_n (a := n + 1) (k := 0) (by decide) (by omega)
    simpa using this
  have e1 : zsub ((n + 1 : Nat) : Int) (n : Int) = 1 := by
    rw [zsub_ok] <;> omega
  have e2 : zshl 2 0 = 2 := by decide
  have e3 : zadd (n : Int) 2 = (n : Int) + 2 := by rw [zadd_ok] <;> omega
  have e4 : zadd (n : Int) ((n : Int) + 2) = ((2 * n + 2 : Nat) : Int) := by rw [zadd_ok] <;> omega
  have e5 : zshr ((2 * n + 2 : Nat) : Int) 0 = ((2 * n + 2 : Nat) : Int) := by
    have := zshr_n (a := 2 * n + 2) (k := 0) (by decide) (by omega)
    simpa using this
  have g0 : zgf μ.2 2000 (b : Int) = some (va : Int) := by rw [gf_ok (by rw [k1]; rfl), k2]
  have g1 : zgf μ.2 2001 (b : Int) = some 0 := by rw [gf_ok (by rw [k1]; rfl), k3]
  unfold h_J0_newCapacity h_J11_newLength
  have e6 : (if (1 : Int) < (n : Int) + 2 then (n : Int) + 2 else 1) = (n : Int) + 2 := if_pos (by omega)
  simp only [g0, g1, la_ok k5, Option.bind_some, zlet, e0, e1, e2, e3, e6, e4]
  rw [if_neg (by omega), if_neg (by omega), hci_i, if_pos (by omega), g1, Option.bind_some, e5]
theorem copyB {a n m : Nat} {μ : cM} (h : zK μ.2 a = (104, n)) (hm : n < m) (hm2 : m ≤ 600) (h2 : zN μ.2 + 1 ≤ zE μ.2) (h3 : zU μ.2 + m ≤ 7287785) (ha : a < zN μ.2) : ∃ σ', h_J13_copyOf (a : Int) (m : Int) μ = some (0, zr (zN μ.2), (μ.1, σ')) ∧ zF σ' = zF μ.2 ∧ (∀ x, zK σ' x = if x = zN μ.2 then (104, m) else zK μ.2 x) ∧ zN σ' = zN μ.2 + 1 ∧ zU σ' = zU μ.2 + m ∧ zE σ' = zE μ.2 ∧ (∀ x, x ≠ zN μ.2 → zA σ' x = zA μ.2 x) ∧ ∀ i, i < n → zA σ' (zN μ.2) i = zA μ.2 a i := by
  unfold h_J13_copyOf
  rw [la_ok h, Option.bind_some, if_pos (by omega), nA_ok (by omega) h2 h3, hup_s, Option.bind_some]
  simp only [zlet]
  have hk : zK ((zF μ.2, fun a i => if a = zN μ.2 then zdef (zaty 104) else zA μ.2 a i, fun a => if a = zN μ.2 then (104, m) else zK μ.2 a, zN μ.2 + 1, zU μ.2 + m, zE μ.2) : zM) a = (104, n) := by
    show (if a = zN μ.2 then _ else _) = _
    rw [if_neg (by omega)]; exact h
  have hk2 : zK ((zF μ.2, fun a i => if a = zN μ.2 then zdef (zaty 104) else zA μ.2 a i, fun a => if a = zN μ.2 then (104, m) else zK μ.2 a, zN μ.2 + 1, zU μ.2 + m, zE μ.2) : zM) (zN μ.2) = (104, m) := if_pos rfl
  rw [la_ok hk, Option.bind_some, if_neg (by omega)]
  rw [zcpT (by
    refine ⟨⟨Int.natCast_nonneg _, Int.natCast_nonneg _, ?_, ?_⟩, ⟨by omega, by omega, by omega, ?_, ?_⟩, fun q => by omega⟩
    · rw [Int.toNat_natCast, hk]
    · rw [Int.toNat_natCast, hk2]
    · rw [Int.toNat_natCast, hk]; omega
    · rw [Int.toNat_natCast, hk2]; omega), hup_s, Option.bind_some]
  refine ⟨_, rfl, rfl, fun x => rfl, rfl, rfl, rfl, fun x hx => ?_, fun i hi => ?_⟩
  · funext i
    show (if x = _ then _ else (if x = zN μ.2 then _ else _)) = _
    rw [Int.toNat_natCast, if_neg hx, if_neg hx]
  · show (if zN μ.2 = _ then va_cpy _ _ _ _ _ i else _) = _
    rw [Int.toNat_natCast, Int.toNat_natCast, if_pos rfl]
    show (if _ then _ else _) = _
    rw [if_pos ⟨Nat.zero_le _, by show i < 0 + (n : Int).toNat; omega⟩]
    show (if a = zN μ.2 then _ else zA μ.2 a (0 + (i - 0))) = _
    rw [if_neg (by omega)]
    congr 1
    omega
theorem ensure {b n va cap : Nat} {c : Nat → Int} {μ : cM} (h : SBx μ.2 b n c va cap) (hn : n < 240) (hb : b < zN μ.2) (hv : va < zN μ.2) (h2 : zN μ.2 + 1 ≤ zE μ.2) (h3 : zU μ.2 + 600 ≤ 7287785) :
    ∃ σ' va' cap', h_J0_ensureCapacityInternal (b : Int) ((n + 1 : Nat) : Int) μ = some (0, (3, 0), (μ.1, σ')) ∧ SBx σ' b n c va' cap' ∧ n + 1 ≤ cap' ∧ va' < zN σ' ∧ (va' = va ∨ zN μ.2 ≤ va') ∧ dF (fun a => a = b) μ.2 σ' 1 600 := by
  have hs := h
  obtain ⟨k1, k2, k3, k4, k5, k6, k7, k8⟩ := h
  have g0 : zgf μ.2 2000 (b : Int) = some (va : Int) := by rw [gf_ok (by rw [k1]; rfl), k2]
  have g1 : zgf μ.2 2001 (b : Int) = some 0 := by rw [gf_ok (by rw [k1]; rfl), k3]
  have e0 : zshr (cap : Int) 0 = (cap : Int) := by
    have := zshr_n (a := cap) (k := 0) (by decide) (by omega)
    simpa using this
  have e1 : zsub ((n + 1 : Nat) : Int) (cap : Int) = ((n + 1 : Nat) : Int) - cap := by rw [zsub_ok] <;> omega
  unfold h_J0_ensureCapacityInternal h_J0_ensureCapacityInternal_38
  simp only [g0, g1, la_ok k5, Option.bind_some, zlet, e0, e1]
  by_cases hc : n + 1 ≤ cap
  · rw [if_pos (by omega)]
    exact ⟨μ.2, va, cap, rfl, hs, hc, hv, Or.inl rfl, dF.refl _ _ _ _⟩
  · rw [if_neg (by omega), gdT (is_ok k1)]
    have hcap : cap = n := by omega
    subst hcap
    rw [newCap hs hn, hci_i, g1, Option.bind_some]
    have e2 : zshl ((2 * cap + 2 : Nat) : Int) 0 = ((2 * cap + 2 : Nat) : Int) := by
      have := zshl_n (a := 2 * cap + 2) (k := 0) (by decide) (by omega)
      simpa using this
    rw [e2]
    obtain ⟨s, q0, q1, q2, q3, q4, q5, q6, q7⟩ := copyB (μ := μ) (m := 2 * cap + 2) k5 (by omega) (by omega) h2 (by omega) hv
    rw [q0, hcr_r]
    have hkb : zK s b = (21, 0) := by rw [q2, if_neg (by omega)]; exact k1
    rw [pf_ok (by rw [hkb]; rfl), hup_s, Option.bind_some]
    refine ⟨_, zN μ.2, 2 * cap + 2, rfl, ⟨hkb, ?_, ?_, ?_, ?_, by omega, by omega, fun i hi => ?_⟩, by omega, ?_, Or.inr (Nat.le_refl _), ?_⟩
    · rw [zF_sF, if_pos ⟨rfl, rfl⟩]
    · rw [zF_sF, if_neg (by simp), q1]; exact k3
    · rw [zF_sF, if_neg (by simp), q1]; exact k4
    · show zK s (zN μ.2) = _
      rw [q2, if_pos rfl]
    · show zA s (zN μ.2) i = c i
      rw [q7 i hi]; exact k8 i hi
    · show zN μ.2 < zN s
      omega
    · refine ⟨q5, by show zN μ.2 ≤ zN s; omega, by show zN s ≤ _; omega, by show zU μ.2 ≤ zU s; omega, by show zU s ≤ _; omega, fun a ha => ⟨?_, fun hW => ⟨fun f => ?_, ?_⟩⟩⟩
      · show zK s a = _
        rw [q2, if_neg (by omega)]
      · rw [zF_sF, if_neg (fun q => hW q.2), q1]
      · show zA s a = _
        exact q6 a (by omega)
theorem append_ok {b n va cap : Nat} {c : Nat → Int} {ch : Nat} {μ : cM} (h : SBx μ.2 b n c va cap) (hn : n < 240) (hb : b < zN μ.2) (hv : va < zN μ.2) (hc : ch < 128) (h2 : zN μ.2 + 1 ≤ zE μ.2) (h3 : zU μ.2 + 600 ≤ 7287785) :
    ∃ σ' va' cap', h_J1_append_3 (b : Int) (ch : Int) μ = some (0, zr b, (μ.1, σ')) ∧ SBx σ' b (n + 1) (fun i => if i = n then ch else c i) va' cap' ∧ va' < zN σ' ∧ (va' = va ∨ zN μ.2 ≤ va') ∧ dF (fun a => a = b ∨ a = va) μ.2 σ' 1 600 := by
  obtain ⟨s, va', cap', q0, q1, q2, q3, q4, q5⟩ := ensure h hn hb hv h2 h3
  have hs := q1
  obtain ⟨k1, k2, k3, k4, k5, k6, k7, k8⟩ := q1
  have e0 : zadd (n : Int) 1 = ((n + 1 : Nat) : Int) := by rw [zadd_ok] <;> omega
  have g3 : zgf μ.2 2003 (b : Int) = some (n : Int) := by rw [gf_ok (by rw [h.1]; rfl), h.2.2.2.1]
  have g0 : zgf s 2000 (b : Int) = some (va' : Int) := by rw [gf_ok (by rw [k1]; rfl), k2]
  have g4 : zgf s 2003 (b : Int) = some (n : Int) := by rw [gf_ok (by rw [k1]; rfl), k4]
  have hne : b ≠ va' := fun e => by rw [e, k5] at k1; cases k1
  unfold h_J1_append_3 h_J0_append_3 h_J0_append_3_75
  rw [gdT (is_ok h.1), g3, Option.bind_some, gdT (is_ok h.1), e0, q0, hcv_v, gdT (is_ok k1), isL1 (by rw [k1]; rfl) k3, hci_i, if_neg (by decide), canEnc (by omega), hci_i, if_neg (by decide)]
  rw [g0, Option.bind_some, g4, Option.bind_some, e0, pf_ok (by rw [k1]; rfl), hup_s, Option.bind_some, zi2b_ok ch hc, gdT (by unfold zby; simp; omega)]
  rw [pa_ok (n := cap') (show zK (zsF s 2003 b _) va' = _ from k5) (by omega), hup_s, Option.bind_some, hcr_r]
  refine ⟨_, va', cap', rfl, ⟨k1, ?_, ?_, ?_, k5, by omega, k7, fun i hi => ?_⟩, q3, q4, ?_⟩
  · rw [zF_sA, zF_sF, if_neg (by simp)]; exact k2
  · rw [zF_sA, zF_sF, if_neg (by simp)]; exact k3
  · rw [zF_sA, zF_sF, if_pos ⟨rfl, rfl⟩]
  · rw [zA_sA]
    show _ = if i = n then _ else _
    by_cases hi2 : i = n
    · rw [if_pos ⟨rfl, hi2⟩, if_pos hi2]
    · rw [if_neg (fun q => hi2 q.2), if_neg hi2]
      exact k8 i (by omega)
  · have d1 : dF (fun a => a = b ∨ a = va) μ.2 s 1 600 := by
      obtain ⟨a1, a2, a3, a4, a5, a6⟩ := q5
      exact ⟨a1, a2, a3, a4, a5, fun a ha => ⟨(a6 a ha).1, fun hW => (a6 a ha).2 (fun q => hW (Or.inl q))⟩⟩
    obtain ⟨a1, a2, a3, a4, a5, a6⟩ := d1
    refine ⟨a1, a2, a3, a4, a5, fun a ha => ⟨(a6 a ha).1, fun hW => ⟨fun f => ?_, ?_⟩⟩⟩
    · show (if f = 2003 ∧ a = b then _ else zF s f a) = _
      rw [if_neg (fun q => hW (Or.inl q.2))]
      exact ((a6 a ha).2 hW).1 f
    · funext i
      rw [zA_sA, if_neg (fun q => by
        rcases q4 with e | e
        · exact hW (Or.inr (by rw [← e]; exact q.1))
        · omega)]
      show zA s a i = _
      rw [((a6 a ha).2 hW).2]

section R2
variable {g : zG} {M : zT} {lv pc : Nat} {ls : List (Nat × zV)} {st : List zV} {σ : zM} {out : zO}
/-- a branch -/
theorem gj_br {pt pf : Nat} {C : Prop} {st' : List zV} (hok : (∀ v ∈ st, zok g v) → ∀ v ∈ st', zok g v)
    (h : ∀ {p : Program} {l : Launch} {e : Env} {R : Room} {s : State} {m : MethodId} {args : Array Value} {below : List Frame} {meth : Method} {c : Code} {H : Heap} {locs : List Loc} {cells slots : Nat} {Q : State → Prop} {lc : Array Slot}, p.tables.exec = Jvm.exec → c.code = M.2.1 → zgok g → (∀ v ∈ st, zok g v) → (C → W p l e R s m args below meth c H locs cells slots Q (F0 m pt lc (st'.map (zval g)))) → (¬ C → W p l e R s m args below meth c H locs cells slots Q (F0 m pf lc (st'.map (zval g)))) → W p l e R s m args below meth c H locs cells slots Q (F0 m pc lc (st.map (zval g))))
    (kt : C → Gj g M lv pt ls st' σ out) (kf : ¬ C → Gj g M lv pf ls st' σ out) : Gj g M lv pc ls st σ out := by
  intro p e s m args below meth c H locs lc σs ⟨h1, h2, h3, h4, h5, h6, h7, h8, h9, h10, h11⟩
  have hc := h2
  obtain ⟨hx, hb, hml, hr, hlk, hown, hnm, hW, hh, hsz⟩ := hc
  exact h hx hb h1 h11 (fun q => kt q p e s m args below meth c H locs lc σs ⟨h1, h2, h3, h4, h5, h6, h7, h8, h9, h10, hok h11⟩) (fun q => kf q p e s m args below meth c H locs lc σs ⟨h1, h2, h3, h4, h5, h6, h7, h8, h9, h10, hok h11⟩)
theorem gj_icmp_eq {a b off : Int} (tgt : Nat) (hd : decode M.2.1 pc = .ok (.if_icmp .eq off, 3)) (ht : (pc : Int) + off = (tgt : Int)) (kt : a = b → Gj g M lv tgt ls st σ out) (kf : ¬ (a = b) → Gj g M lv (pc + 3) ls st σ out) : Gj g M lv pc ls (zi b :: zi a :: st) σ out :=
  gj_br (C := a = b) (fun h => ztl (ztl h)) (fun hx hb _ hv kt kf => by
    have e1 := zok_i (zhd hv)
    have e2 := zok_i (zhd (ztl hv))
    simp only [List.map_cons, zval_i]
    rw [← e1, ← e2] at kt kf
    simp only [Int32.toInt_inj] at kt kf
    exact lv_icmp_eq hx hb hd ht kt kf) kt kf
theorem gj_if_eq {a off : Int} (tgt : Nat) (hd : decode M.2.1 pc = .ok (.ifCond .eq off, 3)) (ht : (pc : Int) + off = (tgt : Int)) (kt : a = 0 → Gj g M lv tgt ls st σ out) (kf : ¬ (a = 0) → Gj g M lv (pc + 3) ls st σ out) : Gj g M lv pc ls (zi a :: st) σ out :=
  gj_br (C := a = 0) (fun h => ztl h) (fun hx hb _ hv kt kf => by
    have e1 := zok_i (zhd hv)
    have e2 : (0 : Int32).toInt = 0 := rfl
    simp only [List.map_cons, zval_i]
    rw [← e1, ← e2] at kt kf
    simp only [Int32.toInt_inj] at kt kf
    exact lv_if_eq hx hb hd ht kt kf) kt kf
theorem gj_icmp_ne {a b off : Int} (tgt : Nat) (hd : decode M.2.1 pc = .ok (.if_icmp .ne off, 3)) (ht : (pc : Int) + off = (tgt : Int)) (kt : a ≠ b → Gj g M lv tgt ls st σ out) (kf : ¬ (a ≠ b) → Gj g M lv (pc + 3) ls st σ out) : Gj g M lv pc ls (zi b :: zi a :: st) σ out :=
  gj_br (C := a ≠ b) (fun h => ztl (ztl h)) (fun hx hb _ hv kt kf => by
    have e1 := zok_i (zhd hv)
    have e2 := zok_i (zhd (ztl hv))
    simp only [List.map_cons, zval_i]
    rw [← e1, ← e2] at kt kf
    simp only [ne_eq, Int32.toInt_inj] at kt kf
    exact lv_icmp_ne hx hb hd ht kt (fun e => kf (fun q => q e))) kt kf
theorem gj_if_ne {a off : Int} (tgt : Nat) (hd : decode M.2.1 pc = .ok (.ifCond .ne off, 3)) (ht : (pc : Int) + off = (tgt : Int)) (kt : a ≠ 0 → Gj g M lv tgt ls st σ out) (kf : ¬ (a ≠ 0) → Gj g M lv (pc + 3) ls st σ out) : Gj g M lv pc ls (zi a :: st) σ out :=
  gj_br (C := a ≠ 0) (fun h => ztl h) (fun hx hb _ hv kt kf => by
    have e1 := zok_i (zhd hv)
    have e2 : (0 : Int32).toInt = 0 := rfl
    simp only [List.map_cons, zval_i]
    rw [← e1, ← e2] at kt kf
    simp only [ne_eq, Int32.toInt_inj] at kt kf
    exact lv_if_ne hx hb hd ht kt (fun e => kf (fun q => q e))) kt kf
theorem gj_icmp_lt {a b off : Int} (tgt : Nat) (hd : decode M.2.1 pc = .ok (.if_icmp .lt off, 3)) (ht : (pc : Int) + off = (tgt : Int)) (kt : a < b → Gj g M lv tgt ls st σ out) (kf : ¬ (a < b) → Gj g M lv (pc + 3) ls st σ out) : Gj g M lv pc ls (zi b :: zi a :: st) σ out :=
  gj_br (C := a < b) (fun h => ztl (ztl h)) (fun hx hb _ hv kt kf => by
    have e1 := zok_i (zhd hv)
    have e2 := zok_i (zhd (ztl hv))
    simp only [List.map_cons, zval_i]
    rw [← e1, ← e2] at kt kf
    simp only [← Int32.lt_iff_toInt_lt] at kt kf
    exact lv_icmp_lt hx hb hd ht kt kf) kt kf
theorem gj_if_lt {a off : Int} (tgt : Nat) (hd : decode M.2.1 pc = .ok (.ifCond .lt off, 3)) (ht : (pc : Int) + off = (tgt : Int)) (kt : a < 0 → Gj g M lv tgt ls st σ out) (kf : ¬ (a < 0) → Gj g M lv (pc + 3) ls st σ out) : Gj g M lv pc ls (zi a :: st) σ out :=
  gj_br (C := a < 0) (fun h => ztl h) (fun hx hb _ hv kt kf => by
    have e1 := zok_i (zhd hv)
    have e2 : (0 : Int32).toInt = 0 := rfl
    simp only [List.map_cons, zval_i]
    rw [← e1, ← e2] at kt kf
    simp only [← Int32.lt_iff_toInt_lt] at kt kf
    exact lv_if_lt hx hb hd ht kt kf) kt kf
theorem gj_icmp_ge {a b off : Int} (tgt : Nat) (hd : decode M.2.1 pc = .ok (.if_icmp .ge off, 3)) (ht : (pc : Int) + off = (tgt : Int)) (kt : b ≤ a → Gj g M lv tgt ls st σ out) (kf : ¬ (b ≤ a) → Gj g M lv (pc + 3) ls st σ out) : Gj g M lv pc ls (zi b :: zi a :: st) σ out :=
  gj_br (C := b ≤ a) (fun h => ztl (ztl h)) (fun hx hb _ hv kt kf => by
    have e1 := zok_i (zhd hv)
    have e2 := zok_i (zhd (ztl hv))
    simp only [List.map_cons, zval_i]
    rw [← e1, ← e2] at kt kf
    simp only [← Int32.le_iff_toInt_le] at kt kf
    exact lv_icmp_ge hx hb hd ht kt kf) kt kf
theorem gj_if_ge {a off : Int} (tgt : Nat) (hd : decode M.2.1 pc = .ok (.ifCond .ge off, 3)) (ht : (pc : Int) + off = (tgt : Int)) (kt : 0 ≤ a → Gj g M lv tgt ls st σ out) (kf : ¬ (0 ≤ a) → Gj g M lv (pc + 3) ls st σ out) : Gj g M lv pc ls (zi a :: st) σ out :=
  gj_br (C := 0 ≤ a) (fun h => ztl h) (fun hx hb _ hv kt kf => by
    have e1 := zok_i (zhd hv)
    have e2 : (0 : Int32).toInt = 0 := rfl
    simp only [List.map_cons, zval_i]
    rw [← e1, ← e2] at kt kf
    simp only [← Int32.le_iff_toInt_le] at kt kf
    exact lv_if_ge hx hb hd ht kt kf) kt kf
theorem gj_icmp_gt {a b off : Int} (tgt : Nat) (hd : decode M.2.1 pc = .ok (.if_icmp .gt off, 3)) (ht : (pc : Int) + off = (tgt : Int)) (kt : b < a → Gj g M lv tgt ls st σ out) (kf : ¬ (b < a) → Gj g M lv (pc + 3) ls st σ out) : Gj g M lv pc ls (zi b :: zi a :: st) σ out :=
  gj_br (C := b < a) (fun h => ztl (ztl h)) (fun hx hb _ hv kt kf => by
    have e1 := zok_i (zhd hv)
    have e2 := zok_i (zhd (ztl hv))
    simp only [List.map_cons, zval_i]
    rw [← e1, ← e2] at kt kf
    simp only [← Int32.lt_iff_toInt_lt] at kt kf
    exact lv_icmp_gt hx hb hd ht kt kf) kt kf
theorem gj_if_gt {a off : Int} (tgt : Nat) (hd : decode M.2.1 pc = .ok (.ifCond .gt off, 3)) (ht : (pc : Int) + off = (tgt : Int)) (kt : 0 < a → Gj g M lv tgt ls st σ out) (kf : ¬ (0 < a) → Gj g M lv (pc + 3) ls st σ out) : Gj g M lv pc ls (zi a :: st) σ out :=
  gj_br (C := 0 < a) (fun h => ztl h) (fun hx hb _ hv kt kf => by
    have e1 := zok_i (zhd hv)
    have e2 : (0 : Int32).toInt = 0 := rfl
    simp only [List.map_cons, zval_i]
    rw [← e1, ← e2] at kt kf
    simp only [← Int32.lt_iff_toInt_lt] at kt kf
    exact lv_if_gt hx hb hd ht kt kf) kt kf
theorem gj_icmp_le {a b off : Int} (tgt : Nat) (hd : decode M.2.1 pc = .ok (.if_icmp .le off, 3)) (ht : (pc : Int) + off = (tgt : Int)) (kt : a ≤ b → Gj g M lv tgt ls st σ out) (kf : ¬ (a ≤ b) → Gj g M lv (pc + 3) ls st σ out) : Gj g M lv pc ls (zi b :: zi a :: st) σ out :=
  gj_br (C := a ≤ b) (fun h => ztl (ztl h)) (fun hx hb _ hv kt kf => by
    have e1 := zok_i (zhd hv)
    have e2 := zok_i (zhd (ztl hv))
    simp only [List.map_cons, zval_i]
    rw [← e1, ← e2] at kt kf
    simp only [← Int32.le_iff_toInt_le] at kt kf
    exact lv_icmp_le hx hb hd ht kt kf) kt kf
theorem gj_if_le {a off : Int} (tgt : Nat) (hd : decode M.2.1 pc = .ok (.ifCond .le off, 3)) (ht : (pc : Int) + off = (tgt : Int)) (kt : a ≤ 0 → Gj g M lv tgt ls st σ out) (kf : ¬ (a ≤ 0) → Gj g M lv (pc + 3) ls st σ out) : Gj g M lv pc ls (zi a :: st) σ out :=
  gj_br (C := a ≤ 0) (fun h => ztl h) (fun hx hb _ hv kt kf => by
    have e1 := zok_i (zhd hv)
    have e2 : (0 : Int32).toInt = 0 := rfl
    simp only [List.map_cons, zval_i]
    rw [← e1, ← e2] at kt kf
    simp only [← Int32.le_iff_toInt_le] at kt kf
    exact lv_if_le hx hb hd ht kt kf) kt kf
def zrx (g : zG) (a : Int) : Option Nat := if a = -1 then none else if 0 ≤ a then some a.toNat else some (zad g (-2 - a).toNat)
theorem zref_rf (g : zG) (a : Int) : zref g a = va_rf (zrx g a) := by
  unfold zref zrx
  split
  · rfl
  · split <;> rfl
theorem zad_lt (hg : zgok g) {i : Nat} (hi : i < 11) : zad g i < zB g := by
  obtain ⟨-, ⟨cell, h1, -⟩, -⟩ := hg.2.2.2.1.1 i hi
  exact (Array.getElem?_eq_some_iff.mp h1).1
theorem zad_inj (hg : zgok g) {i j : Nat} (hi : i < 11) (hj : j < 11) (h : zad g i = zad g j) : i = j := hg.2.2.2.1.2 i j hi hj h
theorem zrx_inj (hg : zgok g) {a b : Int} (ha : zokr g a) (hb : zokr g b) (h : zrx g a = zrx g b) : a = b := by
  obtain ⟨hs1, -, hs3⟩ := hg.2.2.2.2.2.2.2.2.2.2.2.2.1.2
  have key : ∀ a : Int, zokr g a → (a = -1 ∧ zrx g a = none) ∨ (∃ n : Nat, a = n ∧ zB g ≤ n ∧ zrx g a = some n) ∨ (∃ i : Nat, i < 11 ∧ a = -2 - i ∧ zrx g a = some (zad g i)) ∨ (a = -21 ∧ zrx g a = some (zad g 19)) := by
    intro a ha
    rcases ha with h | h | h | h
    · exact Or.inl ⟨h, by simp [zrx, h]⟩
    · refine Or.inr (Or.inl ⟨a.toNat, by omega, by omega, ?_⟩)
      unfold zrx
      rw [if_neg (by omega), if_pos (by omega)]
    · refine Or.inr (Or.inr (Or.inl ⟨(-2 - a).toNat, by omega, by omega, ?_⟩))
      unfold zrx
      rw [if_neg (by omega), if_neg (by omega)]
    · refine Or.inr (Or.inr (Or.inr ⟨h, ?_⟩))
      rw [h]
      rfl
  rcases key a ha with ⟨e, q⟩ | ⟨n, e, l1, q⟩ | ⟨i, l1, e, q⟩ | ⟨e, q⟩ <;> rcases key b hb with ⟨e', q'⟩ | ⟨n', e', l2, q'⟩ | ⟨i', l2, e', q'⟩ | ⟨e', q'⟩ <;> rw [q, q'] at h <;> simp only [Option.some.injEq, reduceCtorEq] at h
  · omega
  · omega
  · have := zad_lt hg l2; omega
  · omega
  · have := zad_lt hg l1; omega
  · have := zad_inj hg l1 l2 h; omega
  · exact absurd h (hs3 _ l1)
  · omega
  · exact absurd h.symm (hs3 _ l2)
  · omega
theorem gj_acmp_eq {a b off : Int} (tgt : Nat) (hd : decode M.2.1 pc = .ok (.if_acmp .eq off, 3)) (ht : (pc : Int) + off = (tgt : Int)) (kt : a = b → Gj g M lv tgt ls st σ out) (kf : ¬ a = b → Gj g M lv (pc + 3) ls st σ out) : Gj g M lv pc ls (zr b :: zr a :: st) σ out :=
  gj_br (C := a = b) (fun h => ztl (ztl h)) (fun hx hb hg hv kt kf => by
    have h1 : zokr g b := by simpa [zok] using zhd hv
    have h2 : zokr g a := by simpa [zok] using zhd (ztl hv)
    simp only [List.map_cons, zval_r, zref_rf]
    exact lv_acmp_eq hx hb hd ht (fun e => kt (zrx_inj hg h2 h1 e)) (fun e => kf (fun q => e (by rw [q])))) kt kf
theorem gj_acmp_ne {a b off : Int} (tgt : Nat) (hd : decode M.2.1 pc = .ok (.if_acmp .ne off, 3)) (ht : (pc : Int) + off = (tgt : Int)) (kt : a ≠ b → Gj g M lv tgt ls st σ out) (kf : ¬ (a ≠ b) → Gj g M lv (pc + 3) ls st σ out) : Gj g M lv pc ls (zr b :: zr a :: st) σ out :=
  gj_br (C := a ≠ b) (fun h => ztl (ztl h)) (fun hx hb hg hv kt kf => by
    have h1 : zokr g b := by simpa [zok] using zhd hv
    have h2 : zokr g a := by simpa [zok] using zhd (ztl hv)
    simp only [List.map_cons, zval_r, zref_rf]
    exact lv_acmp_ne hx hb hd ht (fun e => kt (fun q => e (by rw [q]))) (fun e => kf (fun q => q (zrx_inj hg h2 h1 e)))) kt kf
theorem zref_nn (g : zG) {a : Int} (h : a ≠ -1) : ∃ x, zref g a = .ref x := by
  unfold zref
  rw [if_neg h]
  split
  · exact ⟨_, rfl⟩
  · exact ⟨_, rfl⟩
theorem gj_ifnull {a off : Int} (tgt : Nat) (hd : decode M.2.1 pc = .ok (.ifnull off, 3)) (ht : (pc : Int) + off = (tgt : Int)) (kt : a = -1 → Gj g M lv tgt ls st σ out) (kf : ¬ a = -1 → Gj g M lv (pc + 3) ls st σ out) : Gj g M lv pc ls (zr a :: st) σ out :=
  gj_br (C := a = -1) ztl (fun hx hb hg hv kt kf => by
    simp only [List.map_cons, zval_r]
    by_cases h : a = -1
    · rw [show zref g a = .null by rw [h]; rfl]
      exact lv_ifnullN hx hb hd ht (kt h)
    · obtain ⟨x, e⟩ := zref_nn g h
      rw [e]
      exact lv_ifnull hx hb hd (kf h)) kt kf
theorem gj_ifnonnull {a off : Int} (tgt : Nat) (hd : decode M.2.1 pc = .ok (.ifnonnull off, 3)) (ht : (pc : Int) + off = (tgt : Int)) (kt : a ≠ -1 → Gj g M lv tgt ls st σ out) (kf : ¬ a ≠ -1 → Gj g M lv (pc + 3) ls st σ out) : Gj g M lv pc ls (zr a :: st) σ out :=
  gj_br (C := a ≠ -1) ztl (fun hx hb hg hv kt kf => by
    simp only [List.map_cons, zval_r]
    by_cases h : a = -1
    · rw [show zref g a = .null by rw [h]; rfl]
      exact lv_ifnonnullN hx hb hd (kf (fun q => q h))
    · obtain ⟨x, e⟩ := zref_nn g h
      rw [e]
      exact lv_ifnonnull hx hb hd ht (kt h)) kt kf
end R2

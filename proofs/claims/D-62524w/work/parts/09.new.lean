set_option maxRecDepth 100000
/-- what a new cell's fields hold -/
def zdef (t : FieldType) : Int := if ztag t = 2 then -1 else 0
/-- a new object of class ci with n slots -/
def znO (σ : zM) (ci n : Nat) : Option zM := if zN σ + 1 ≤ zE σ ∧ zU σ + n ≤ 7287785 then some (fun f a => if a = zN σ then zdef (zft f) else zF σ f a, zA σ, fun a => if a = zN σ then (ci + 1, 0) else zK σ a, zN σ + 1, zU σ + n, zE σ) else none
/-- a new array of kind k -/
def znA (σ : zM) (k : Nat) (n : Int) : Option zM := if 0 ≤ n ∧ n ≤ 1000000 ∧ zN σ + 1 ≤ zE σ ∧ zU σ + n.toNat ≤ 7287785 then some (zF σ, fun a i => if a = zN σ then zdef (zaty k) else zA σ a i, fun a => if a = zN σ then (k, n.toNat) else zK σ a, zN σ + 1, zU σ + n.toNat, zE σ) else none
theorem hg2 {g : zG} (hg : zgok g) (k : Nat) (h1 : 101 ≤ k) (h2 : k ≤ 110) : ArrOfT (zs g) (zY g k) (zaty k) ∧ va_RA (zs g) (zY g k) (zaty k) := hg.2.2.1 k h1 h2
section R6
variable {g : zG} {M : zT} {lv pc : Nat} {ls : List (Nat × zV)} {st : List zV} {σ : zM} {out : zO}
theorem zdef_ok (g : zG) (t : FieldType) (h : zgt t = true) : zokt g t (zdef t) ∧ zval g (ztag t, zdef t) = defaultValue t := by
  cases t <;> first | cases h; done | skip
  all_goals first | exact ⟨by simp [zokt, zdef, ztag, zokr], rfl⟩
/-- a cell more -/
theorem zHp_new {H H' : Heap} {σ' : zM} {kc : Nat × Nat} (hH : zHp g σ H) (h0 : kc.1 ≠ 0) (hN : zN σ' = zN σ + 1) (hE : zE σ' = zE σ) (hF : ∀ f a, a ≠ zN σ → zF σ' f a = zF σ f a) (hA : ∀ a, a ≠ zN σ → zA σ' a = zA σ a) (hK : ∀ a, zK σ' a = if a = zN σ then kc else zK σ a)
    (w2 : H'.size = H.size + 1) (w3 : ∀ q, q < H.size → H'[q]? = H[q]?) (hc : zcell g σ' (zN σ) H') : zHp g σ' H' := by
  obtain ⟨hz, ⟨hb, he, hall⟩, ho, hk⟩ := hH
  refine ⟨by rw [w2, hz, hN], ⟨by omega, by rw [hE]; exact he, fun a h1 h2 => ?_⟩, fun q hq => ?_, fun a ha => ?_⟩
  · rw [hK]
    by_cases hq : a = zN σ
    · rw [if_pos hq]; exact h0
    · rw [if_neg hq]; exact hall a h1 (by omega)
  · rw [w3 q (by omega)]; exact ho q hq
  · by_cases haN : a = zN σ
    · subst haN
      exact ⟨hb, hc⟩
    · rw [hK, if_neg haN] at ha
      obtain ⟨b1, b2⟩ := hk a ha
      refine ⟨b1, zcell_kept b2 (by rw [hK, if_neg haN]) (fun f => hF f a haN) (hA a haN) (w3 a ?_)⟩
      unfold zcell at b2
      split at b2
      · obtain ⟨r, -, ⟨cell, q, -⟩, -⟩ := b2
        exact (Array.getElem?_eq_some_iff.mp q).1
      · split at b2
        · obtain ⟨cell, q, -⟩ := b2
          exact (Array.getElem?_eq_some_iff.mp q).1
        · exact (Array.getElem?_eq_some_iff.mp b2.1).1
theorem zfid_ft {ci k : Nat} {r : vw_C} (h : zcl[ci]? = some r) (hk : k < r.2.2) (hc5 : ci ≠ 5) : zft (zfid ci k) = zty ci k := by
  have hN : r.2.2 < 100 := (zclk_all ci r h).2.2.2.2
  unfold zfid
  split
  · rename_i h5
    obtain ⟨h6, h7⟩ := h5
    have e : (500 + k) / 100 = 5 := by omega
    have e2 : (500 + k) % 100 = k := by omega
    unfold zft
    rw [if_pos e, e2]
    rcases h6 with h6 | h6 <;> subst h6
    · rfl
    · match k, h7 with
      | 0, _ => rfl
      | 1, _ => rfl
      | 2, _ => rfl
      | 3, _ => rfl
      | 4, _ => rfl
  · have e : (100 * ci + k) / 100 = ci := by omega
    have e2 : (100 * ci + k) % 100 = k := by omega
    unfold zft
    rw [e, e2]
    split
    · rename_i h5
      exact absurd h5 hc5
    · rfl
theorem gj_new {ci n idx : Nat} {r : vw_C} {σ' : zM} (hc : zcl[ci]? = some r) (h5 : ci ≠ 5) (hv : znO σ ci n = some σ') (hd : decode M.2.1 pc = .ok (.new idx, 3)) (hq1 : Cond.classLink M.1.cls idx r.1 ∈ lw_all) (hq2 : Cond.instantiable r.1 n ∈ lw_all) (hq3 : Cond.initialized r.1 ∈ lw_all)
    (kk : Gj g M lv (pc + 3) ls (zr (zN σ) :: st) σ' out) : Gj g M lv pc ls st σ out := by
  intro p e s m args below meth c H locs lc σs ⟨h1, h2, h3, h4, hz5, h6, h7, h8, h9, h10, h11⟩
  have hcx := h2
  obtain ⟨hx, hb, hml, hr, hlk, hown, hnm, hW, hh, hsz⟩ := hcx
  unfold znO at hv
  split at hv
  · rename_i hroom
    obtain ⟨hr1, hr2⟩ := hroom
    have hE : zE σ = zB g + 600384 := h3.2.1.2.1
    have hbN : zB g ≤ zN σ := h3.2.1.1
    obtain ⟨hin, hty, hnm2, hgt, hN⟩ := zclk_all ci r hc
    have hKn := (zva h1 hW).1 ci _ hc
    have hci : ci ≤ 22 := by
      have := (List.getElem?_eq_some_iff.mp hc).1
      have e : zcl.length = 23 := rfl
      omega
    refine W.newcK hx hb hown (zw h1 hq1 hW args) (zw h1 hq2 hW args) (zw h1 hq3 hW args) rfl hd (by show _ ≤ zB g + 600384 - zN σs; omega) (by show _ ≤ 7287785 - zU σs; omega) hKn.2.1 h3.1 fun H' kC w0 w1 w2 w3 => ?_
    have hob := u_born (zty ci) (fun w hw => zw h1 (w := w) hw hW args) hin hKn w0 w1 hty
    cases hv
    have K := kk p e s m args below meth c H' locs lc σs ⟨h1, h2, ?_, h4, by show zN σs ≤ zN σ + 1; omega, by show zU σs ≤ zU σ + n; omega, by show zN σ + 1 ≤ _; omega, by show zU σ + n ≤ _; omega, h9, h10, zmem ?_ h11⟩
    · simp only [List.map_cons, zval_r, zref_at g (Int.natCast_nonneg (zN σ)), Int.toNat_natCast] at K
      have e1 : zN σ + 1 - zN σs = zN σ - zN σs + 1 := by omega
      have e2 : zU σ + n - zU σs = zU σ - zU σs + n := by omega
      rw [← e1, ← e2]
      exact K
    · refine zHp_new (kc := (ci + 1, 0)) h3 (by simp) rfl rfl (fun f a ha => if_neg ha) (fun a ha => rfl) (fun a => rfl) (by rw [w2, h3.1]) (fun q hq => w3 q (by rw [← h3.1]; exact hq)) ?_
      unfold zcell
      have ek : (zK ((fun f a => if a = zN σ then zdef (zft f) else zF σ f a, zA σ, fun a => if a = zN σ then (ci + 1, 0) else zK σ a, zN σ + 1, zU σ + n, zE σ) : zM) (zN σ)) = (ci + 1, 0) := if_pos rfl
      rw [ek]
      dsimp only
      rw [if_pos (by omega), Nat.add_sub_cancel]
      refine ⟨r, hc, hob.to (fun k hk => ?_), fun k hk => ?_⟩
      · show _ = zval g (ztag (zty ci k), if zN σ = zN σ then zdef (zft (zfid ci k)) else _)
        rw [if_pos rfl, zfid_ft hc hk h5, (zdef_ok g _ (hgt k hk)).2]
      · show zokt g (zty ci k) (if zN σ = zN σ then zdef (zft (zfid ci k)) else _)
        rw [if_pos rfl, zfid_ft hc hk h5]
        exact (zdef_ok g _ (hgt k hk)).1
    · simp only [zok, zokr]
      simp
      omega
  · cases hv
/-- arrays of the primitive types -/
theorem gj_newa {k : Nat} {atype : ArrayType} {n : Int} {σ' : zM} (h101 : 101 ≤ k ∧ k ≤ 104) (hty : newarray.typeOf atype = zaty k) (hv : znA σ k n = some σ') (hd : decode M.2.1 pc = .ok (.newarray atype, 2)) (hq : Cond.arrayClass (zaty k) ∈ lw_all)
    (kk : Gj g M lv (pc + 2) ls (zr (zN σ) :: st) σ' out) : Gj g M lv pc ls (zi n :: st) σ out := by
  intro p e s m args below meth c H locs lc σs ⟨h1, h2, h3, h4, hz5, h6, h7, h8, h9, h10, h11⟩
  have hcx := h2
  obtain ⟨hx, hb, hml, hr, hlk, hown, hnm, hW, hh, hsz⟩ := hcx
  unfold znA at hv
  split at hv
  · rename_i hroom
    obtain ⟨hr0, hr00, hr1, hr2⟩ := hroom
    have hE : zE σ = zB g + 600384 := h3.2.1.2.1
    have hbN : zB g ≤ zN σ := h3.2.1.1
    have hcn : (Int32.ofInt n).toNatClampNeg = n.toNat := zcl_nat hr0 (by omega)
    have hbt : componentBytes (zaty k) ≤ 8 ∧ zgt (zaty k) = true := by
      have : k = 101 ∨ k = 102 ∨ k = 103 ∨ k = 104 := by omega
      rcases this with h | h | h | h <;> subst h <;> exact ⟨by decide, rfl⟩
    simp only [List.map_cons, zval_i]
    refine W.newa hx hb (by rw [hty]; exact zw h1 hq hW args) rfl hd rfl ?_ (by rw [hcn, hty]; exact Nat.le_trans (Nat.mul_le_mul_left _ hbt.1) (by omega)) (by show _ ≤ zB g + 600384 - zN σs; omega) (by rw [hcn]; show _ ≤ 7287785 - zU σs; omega) fun cA kA comp f1 f2 f3 => ?_
    · rw [Int32.lt_iff_toInt_lt, Int32.toInt_ofInt_of_le (by omega) (by omega)]
      exact Int.not_lt.mpr hr0
    · rw [hty] at f1
      have hRA := (hg2 h1 k (by omega) (by omega)).2.moved hW.alike
      have hcA : cA = zY g k := by
        have : k = 101 ∨ k = 102 ∨ k = 103 ∨ k = 104 := by omega
        rcases this with h | h | h | h <;> subst h <;> exact Option.some.inj (f1.symm.trans hRA)
      rw [hcn, arrV_new, hcA, hty]
      cases hv
      have K := kk p e s m args below meth c (H.push (arrV (zY g k) n.toNat (fun _ => defaultValue (zaty k)))) locs lc σs ⟨h1, h2, ?_, h4, by show zN σs ≤ zN σ + 1; omega, by show zU σs ≤ zU σ + n.toNat; omega, by show zN σ + 1 ≤ _; omega, by show zU σ + n.toNat ≤ _; omega, h9, h10, zmem ?_ (ztl h11)⟩
      · simp only [List.map_cons, zval_r, zref_at g (Int.natCast_nonneg (zN σ)), Int.toNat_natCast] at K
        have e1 : zN σ + 1 - zN σs = zN σ - zN σs + 1 := by omega
        have e2 : zU σ + n.toNat - zU σs = zU σ - zU σs + n.toNat := by omega
        rw [← e1, ← e2, h3.1]
        exact K
      · refine zHp_new (kc := (k, n.toNat)) h3 (by show k ≠ 0; omega) rfl rfl (fun f a ha => rfl) (fun a ha => by funext i; exact if_neg ha) (fun a => rfl) (by simp) (fun q hq => by simp [Array.getElem?_push, Nat.ne_of_lt hq]) ?_
        unfold zcell
        have ek : (zK ((zF σ, fun a i => if a = zN σ then zdef (zaty k) else zA σ a i, fun a => if a = zN σ then (k, n.toNat) else zK σ a, zN σ + 1, zU σ + n.toNat, zE σ) : zM) (zN σ)) = (k, n.toNat) := if_pos rfl
        rw [ek]
        dsimp only
        rw [if_neg (by omega), if_neg (by omega)]
        refine ⟨?_, by omega, by omega, fun j hj => ?_⟩
        · rw [← h3.1, Array.getElem?_push_size]
          congr 2
          funext j
          show _ = zval g (ztag (zaty k), if H.size = H.size then zdef (zaty k) else _)
          rw [if_pos rfl, (zdef_ok g _ hbt.2).2]
        · show zokt g (zaty k) (if zN σ = zN σ then zdef (zaty k) else _)
          rw [if_pos rfl]
          exact (zdef_ok g _ hbt.2).1
      · simp only [zok, zokr]
        simp
        omega
  · cases hv
/-- arrays of references -/
theorem gj_anew {k idx : Nat} {C : String} {n : Int} {σ' : zM} (h101 : 105 ≤ k ∧ k ≤ 109) (hty : zaty k = .object C) (hv : znA σ k n = some σ') (hd : decode M.2.1 pc = .ok (.anewarray idx, 3)) (hq : Cond.classLink M.1.cls idx C ∈ lw_all) (ho : Cond.arrayOver (.object C) ∈ lw_tbl)
    (kk : Gj g M lv (pc + 3) ls (zr (zN σ) :: st) σ' out) : Gj g M lv pc ls (zi n :: st) σ out := by
  intro p e s m args below meth c H locs lc σs ⟨h1, h2, h3, h4, hz5, h6, h7, h8, h9, h10, h11⟩
  have hcx := h2
  obtain ⟨hx, hb, hml, hr, hlk, hown, hnm, hW, hh, hsz⟩ := hcx
  unfold znA at hv
  split at hv
  · rename_i hroom
    obtain ⟨hr0, hr00, hr1, hr2⟩ := hroom
    have hE : zE σ = zB g + 600384 := h3.2.1.2.1
    have hbN : zB g ≤ zN σ := h3.2.1.1
    have hcn : (Int32.ofInt n).toNatClampNeg = n.toNat := zcl_nat hr0 (by omega)
    simp only [List.map_cons, zval_i]
    refine W.anew hx hb hown (zw h1 hq hW args) (va_AO.use (va_AO.moved hW.alike (va_AO.of (h1.1 _ ho)))) rfl hd rfl ?_ (by rw [hcn]; omega) (by show _ ≤ zB g + 600384 - zN σs; omega) (by rw [hcn]; show _ ≤ 7287785 - zU σs; omega) fun cA kA comp f1 f2 f3 f4 => ?_
    · rw [Int32.lt_iff_toInt_lt, Int32.toInt_ofInt_of_le (by omega) (by omega)]
      exact Int.not_lt.mpr hr0
    · have hRA := (hg2 h1 k (by omega) (by omega)).2.moved hW.alike
      rw [hty] at hRA
      obtain ⟨kA', comp', k1, k2, k3, k4⟩ := hRA
      have hcA : cA = zY g k := Option.some.inj (f1.symm.trans k4)
      rw [hcn, arrV_new, hcA]
      cases hv
      have K := kk p e s m args below meth c (H.push (arrV (zY g k) n.toNat (fun _ => .null))) locs lc σs ⟨h1, h2, ?_, h4, by show zN σs ≤ zN σ + 1; omega, by show zU σs ≤ zU σ + n.toNat; omega, by show zN σ + 1 ≤ _; omega, by show zU σ + n.toNat ≤ _; omega, h9, h10, zmem ?_ (ztl h11)⟩
      · simp only [List.map_cons, zval_r, zref_at g (Int.natCast_nonneg (zN σ)), Int.toNat_natCast] at K
        have e1 : zN σ + 1 - zN σs = zN σ - zN σs + 1 := by omega
        have e2 : zU σ + n.toNat - zU σs = zU σ - zU σs + n.toNat := by omega
        rw [← e1, ← e2, h3.1]
        exact K
      · refine zHp_new (kc := (k, n.toNat)) h3 (by show k ≠ 0; omega) rfl rfl (fun f a ha => rfl) (fun a ha => by funext i; exact if_neg ha) (fun a => rfl) (by simp) (fun q hq => by simp [Array.getElem?_push, Nat.ne_of_lt hq]) ?_
        unfold zcell
        have ek : (zK ((zF σ, fun a i => if a = zN σ then zdef (zaty k) else zA σ a i, fun a => if a = zN σ then (k, n.toNat) else zK σ a, zN σ + 1, zU σ + n.toNat, zE σ) : zM) (zN σ)) = (k, n.toNat) := if_pos rfl
        rw [ek]
        dsimp only
        rw [if_neg (by omega), if_neg (by omega)]
        refine ⟨?_, by omega, by omega, fun j hj => ?_⟩
        · rw [← h3.1, Array.getElem?_push_size]
          congr 2
          funext j
          show _ = zval g (ztag (zaty k), if H.size = H.size then zdef (zaty k) else _)
          rw [if_pos rfl, hty]
          rfl
        · show zokt g (zaty k) (if zN σ = zN σ then zdef (zaty k) else _)
          rw [if_pos rfl, hty]
          exact Or.inl rfl
      · simp only [zok, zokr]
        simp
        omega
  · cases hv
end R6

set_option maxRecDepth 100000
/-! clone of a byte[], class objects, constants that are only handed on -/
def zcln (σ : zM) (a : Int) : Option zM := if 0 ≤ a ∧ (zK σ a.toNat).1 = 104 ∧ zN σ + 1 ≤ zE σ ∧ zU σ + (zK σ a.toNat).2 ≤ 7287785 then some (zF σ, fun a' i => if a' = zN σ then zA σ a.toNat i else zA σ a' i, fun a' => if a' = zN σ then (104, (zK σ a.toNat).2) else zK σ a', zN σ + 1, zU σ + (zK σ a.toNat).2, zE σ) else none
section Y6
variable {g : zG} {M M' : zT} {lv pc idx : Nat} {ls : List (Nat × zV)} {st : List zV} {σ : zM} {out : zO}
theorem zcls_of {s : State} {k : Nat} {nm : String} (hg : zgok g) (hW : (zs g).WarmedH s.vm) (h1 : 101 ≤ k) (h2 : k ≤ 110) (hr : ∀ U cA, va_RA U cA (zaty k) → U.vm.findClass nm = some cA) : s.vm.findClass nm = some (zY g k) :=
  hr _ _ ((hg2 hg k h1 h2).2.moved hW.alike)
theorem gj_clone {a : Int} {σ' : zM} (hv : zcln σ a = some σ') (hlv : 1 ≤ lv) (hws : (st.map (fun v => if v.1 = 1 then 2 else 1)).sum ≤ 20) (hd : decode M.2.1 pc = .ok (.invokevirtual idx, 3))
    (q1 : Cond.methodLink M.1.cls idx ⟨"[B", "clone", "()Ljava/lang/Object;"⟩ ∈ lw_all) (q2 : Cond.sameMethod "[B" "java/lang/Object" "clone" "()Ljava/lang/Object;" ∈ lw_all) (q3 : Cond.native ⟨"java/lang/Object", "clone", "()Ljava/lang/Object;"⟩ ∈ lw_all) (q4 : Cond.instanceMethod ⟨"java/lang/Object", "clone", "()Ljava/lang/Object;"⟩ ∈ lw_all) (q5 : Cond.selects "[B" ⟨"[B", "clone", "()Ljava/lang/Object;"⟩ ⟨"java/lang/Object", "clone", "()Ljava/lang/Object;"⟩ ∈ lw_all) (q6 : Cond.castable "[B" "java/lang/Cloneable" ∈ lw_tbl)
    (kk : Gj g M lv (pc + 3) ls (zr (zN σ) :: st) σ' out) : Gj g M lv pc ls (zr a :: st) σ out := by
  intro p e s m args below meth c H locs lc σs ⟨h1, h2, h3, h4, hz5, h6, h7, h8, h9, h10, h11⟩
  have hcx := h2
  obtain ⟨hx, hb, hml, hr, hlk, hown, hnm, hW, hh, hsz⟩ := hcx
  unfold zcln at hv
  split at hv
  · rename_i hroom
    obtain ⟨ha, hk, hr1, hr2⟩ := hroom
    cases hv
    have hE : zE σ = zB g + 600384 := h3.2.1.2.1
    have hbN : zB g ≤ zN σ := h3.2.1.1
    obtain ⟨hb0, r1, r2, r3, r4⟩ := zarr_at h3 hk (by omega)
    have hcls : s.vm.findClass "[B" = some (zY g 104) := zcls_of h1 hW (by omega) (by omega) (fun U cA h => h)
    obtain ⟨c0, t0', f1, f2, f3⟩ := Cond.castable_spec (zwC h1 q6 hW args)
    cases hcls.symm.trans f1
    have hcat : ((st.map (zval g)).map fun v => v.category).sum ≤ 20 := by rw [zcatsum]; exact hws
    simp only [List.map_cons, zval_r, zref_at g ha]
    intro T hT X
    obtain ⟨-, kS, hkS, compS, hkindS⟩ := zarr_of (n := 0) (z := fun _ => .null) h1 hW (show 101 ≤ 104 by omega) (by omega)
    obtain ⟨-, kA, hkA, comp, hkind⟩ := State.isArrayOf_alike X.warmed.alike (zarr_of (n := 0) (z := fun _ => .null) h1 hW (show 101 ≤ 104 by omega) (by omega))
    obtain ⟨vm', X', stp⟩ := X.cloneArray hx hown (zw h1 q1 hW args) (zw h1 q2 hW args) (zw h1 q3 hW args) (zw h1 q4 hW args) (zw h1 q5 hW args) (a := a.toNat) (cell := arrV (zY g 104) (zK σ a.toNat).2 (fun j => zval g (ztag (zaty 104), zA σ a.toNat j))) (by rw [hT]; exact r1) (fun k h => by cases h) (fun h => by cases h) hcls f2 f3
      (fun i v hv => by
        have hk' : T.vm.classes[zY g 104]? = some kA := hkA
        have hi : i < (zK σ a.toNat).2 := by
          have := (Array.getElem?_eq_some_iff.mp hv).1
          rw [arrV_size] at this
          exact this
        rw [arrV_read _ _ hi] at hv
        cases hv
        have hn : fits (zaty 104) (zval g (ztag (zaty 104), zA σ a.toNat i)) = true := (znf (g := g) (t := .byte) rfl (r4 i hi)).2
        show State.fitsSlot T (zY g 104) .none i _ = true
        simpa [State.fitsSlot, State.slotType?, hk', hkind] using hn)
      (g := F0 m pc lc (.ref a.toNat :: st.map (zval g))) rfl (by rw [hml]; exact h9.1) rfl (by rw [hb]; exact hd) hlv (by show 2 * 0 + ((st.map (zval g)).map fun v => v.category).sum + 14 ≤ 46 * lv + 192; omega) (by show _ ≤ zB g + 600384 - zN σs; omega) (by rw [arrV_size]; show _ ≤ 7287785 - zU σs; omega) (hloader := Vm.clonesLoader_of_array hkS hkindS)
    have hsz : (arrV (zY g 104) (zK σ a.toNat).2 (fun j => zval g (ztag (zaty 104), zA σ a.toNat j))).slots.size = (zK σ a.toNat).2 := arrV_size _ _ _
    rw [hsz] at X'
    have hce : ({ cls := (arrV (zY g 104) (zK σ a.toNat).2 (fun j => zval g (ztag (zaty 104), zA σ a.toNat j))).cls, slots := (arrV (zY g 104) (zK σ a.toNat).2 (fun j => zval g (ztag (zaty 104), zA σ a.toNat j))).slots } : Cell) = arrV (zY g 104) (zK σ a.toNat).2 (fun j => zval g (ztag (zaty 104), zA σ a.toNat j)) := rfl
    rw [hce] at X' stp
    have hheap : ((T.setVm vm').pushCell (arrV (zY g 104) (zK σ a.toNat).2 (fun j => zval g (ztag (zaty 104), zA σ a.toNat j)))).heap = H.push (arrV (zY g 104) (zK σ a.toNat).2 (fun j => zval g (ztag (zaty 104), zA σ a.toNat j))) := by rw [← hT]; rfl
    have e1 : zN σ + 1 - zN σs = zN σ - zN σs + 1 := by omega
    have e2 : zU σ + (zK σ a.toNat).2 - zU σs = zU σ - zU σs + (zK σ a.toNat).2 := by omega
    rw [← e1, ← e2] at X'
    have K := kk p e s m args below meth c (H.push (arrV (zY g 104) (zK σ a.toNat).2 (fun j => zval g (ztag (zaty 104), zA σ a.toNat j)))) locs lc σs ⟨h1, h2, ?_, h4, by show zN σs ≤ zN σ + 1; omega, by show zU σs ≤ zU σ + _; omega, by show zN σ + 1 ≤ _; omega, by show zU σ + _ ≤ _; omega, h9, h10, zmem ?_ (ztl h11)⟩
    · simp only [List.map_cons, zval_r, zref_at g (Int.natCast_nonneg (zN σ)), Int.toNat_natCast] at K
      rw [← h3.1, ← hT] at K
      obtain ⟨t, a1, b1⟩ := K _ (by rw [hheap, hT]) (by rw [hT]; rw [h3.1]; exact X')
      exact ⟨t, stp t a1, b1⟩
    · refine zHp_new (kc := (104, (zK σ a.toNat).2)) h3 (by show (104 : Nat) ≠ 0; omega) rfl rfl (fun f a ha => rfl) (fun a' ha' => by funext i; exact if_neg ha') (fun a => rfl) (by simp) (fun q hq => by simp [Array.getElem?_push, Nat.ne_of_lt hq]) ?_
      unfold zcell
      have ek : (zK ((zF σ, fun a' i => if a' = zN σ then zA σ a.toNat i else zA σ a' i, fun a' => if a' = zN σ then (104, (zK σ a.toNat).2) else zK σ a', zN σ + 1, zU σ + (zK σ a.toNat).2, zE σ) : zM) (zN σ)) = (104, (zK σ a.toNat).2) := if_pos rfl
      rw [ek]
      dsimp only
      rw [if_neg (by omega), if_neg (by omega)]
      refine ⟨?_, r2, by omega, fun j hj => ?_⟩
      · rw [← h3.1, Array.getElem?_push_size]
        congr 2
        funext j
        show _ = zval g (ztag (zaty 104), if H.size = H.size then zA σ a.toNat j else _)
        rw [if_pos rfl]
      · show zokt g (zaty 104) (if zN σ = zN σ then zA σ a.toNat j else _)
        rw [if_pos rfl]
        exact r4 j hj
    · simp only [zok, zokr]
      simp
      omega
  · cases hv
theorem zasg_self (vm : Vm) (c : ClassId) : vm.assignable c c = true := by
  unfold Vm.assignable
  unfold Vm.assignableAux
  simp
theorem gj_castA {k : Nat} {nm : String} {a : Int} (h101 : 101 ≤ k ∧ k ≤ 110) (hr : ∀ U cA, va_RA U cA (zaty k) → U.vm.findClass nm = some cA) (ha : 0 ≤ a) (hk : (zK σ a.toNat).1 = k) (hd : decode M.2.1 pc = .ok (.checkcast idx, 3)) (hq : Cond.classLink M.1.cls idx nm ∈ lw_all) (kk : Gj g M lv (pc + 3) ls (zr a :: st) σ out) : Gj g M lv pc ls (zr a :: st) σ out := by
  intro p e s m args below meth c H locs lc σs ⟨h1, h2, h3, h4, h5, h6, h7, h8, h9, h10, h11⟩
  have hcx := h2
  obtain ⟨hx, hb, hml, hrr, hlk, hown, hnm, hW, hh, hsz⟩ := hcx
  obtain ⟨hb0, r1, r2, r3, r4⟩ := zarr_at h3 hk h101.1
  have K := kk p e s m args below meth c H locs lc σs ⟨h1, h2, h3, h4, h5, h6, h7, h8, h9, h10, h11⟩
  simp only [List.map_cons, zval_r, zref_at g ha] at K ⊢
  intro T hT X
  obtain ⟨vm', X', stp⟩ := X.checkcastYes hx hown (zw h1 hq hW args) (by rw [hT]; exact r1) rfl (zcls_of h1 hW h101.1 h101.2 hr) (zasg_self _ _) (g := F0 m pc lc (.ref a.toNat :: st.map (zval g))) rfl rfl (by rw [hb]; exact hd)
  obtain ⟨t, a1, b1⟩ := K (T.setVm vm') hT X'
  exact ⟨t, stp t a1, b1⟩
/-- the class object of an Object[] -/
theorem gj_getC {a : Int} (ha : 0 ≤ a) (hk : (zK σ a.toNat).1 = 105) (hlv : 1 ≤ lv) (hws : (st.map (fun v => if v.1 = 1 then 2 else 1)).sum ≤ 20) (hd : decode M.2.1 pc = .ok (.invokevirtual idx, 3))
    (q1 : Cond.methodLink M.1.cls idx ⟨"java/lang/Object", "getClass", "()Ljava/lang/Class;"⟩ ∈ lw_all) (q2 : Cond.declares ⟨"java/lang/Object", "getClass", "()Ljava/lang/Class;"⟩ ∈ lw_tbl) (q3 : Cond.selects "[Ljava/lang/Object;" ⟨"java/lang/Object", "getClass", "()Ljava/lang/Class;"⟩ ⟨"java/lang/Object", "getClass", "()Ljava/lang/Class;"⟩ ∈ lw_all) (q4 : Cond.instanceMethod ⟨"java/lang/Object", "getClass", "()Ljava/lang/Class;"⟩ ∈ lw_all) (q5 : Cond.native ⟨"java/lang/Object", "getClass", "()Ljava/lang/Class;"⟩ ∈ lw_all)
    (kk : Gj g M lv (pc + 3) ls ((4, -23) :: st) σ out) : Gj g M lv pc ls (zr a :: st) σ out := by
  intro p e s m args below meth c H locs lc σs ⟨h1, h2, h3, h4, h5, h6, h7, h8, h9, h10, h11⟩
  have hcx := h2
  obtain ⟨hx, hb, hml, hrr, hlk, hown, hnm, hW, hh, hsz⟩ := hcx
  obtain ⟨hb0, r1, r2, r3, r4⟩ := zarr_at h3 hk (by omega)
  have K := kk p e s m args below meth c H locs lc σs ⟨h1, h2, h3, h4, h5, h6, h7, h8, h9, h10, zmem (by simp [zok]) (ztl h11)⟩
  have hcat : ((st.map (zval g)).map fun v => v.category).sum ≤ 20 := by rw [zcatsum]; exact hws
  simp only [List.map_cons, zval_r, zref_at g ha] at K ⊢
  exact va_getC hx hb (by rw [hml]; exact h9.1.symm) hown (zw h1 q1 hW args) ((va_Dc.of (h1.1 _ q2)).moved hW.alike).use (zw h1 q3 hW args) (zw h1 q4 hW args) (zw h1 q5 hW args) (h1.2.2.2.2.2.2.2.2.2.2.2.2.2.2.moved hW.alike) ⟨_, r1, rfl, zcls_of h1 hW (by omega) (by omega) (fun U cA h => va_nmO (s := U) h (by decide))⟩ hlv (by show _ ≤ 46 * lv + 192; omega) hd K
theorem gj_ldcM (hd : decode M.2.1 pc = .ok (.ldc idx, 2)) (hq : Cond.classLink M.1.cls idx "[Ljava/lang/Object;" ∈ lw_all) (kk : Gj g M lv (pc + 2) ls ((4, -23) :: st) σ out) : Gj g M lv pc ls st σ out := by
  intro p e s m args below meth c H locs lc σs ⟨h1, h2, h3, h4, h5, h6, h7, h8, h9, h10, h11⟩
  have hcx := h2
  obtain ⟨hx, hb, hml, hrr, hlk, hown, hnm, hW, hh, hsz⟩ := hcx
  have K := kk p e s m args below meth c H locs lc σs ⟨h1, h2, h3, h4, h5, h6, h7, h8, h9, h10, zmem (by simp [zok]) h11⟩
  exact va_ldcM hx hb hown (zw h1 hq hW args) (h1.2.2.2.2.2.2.2.2.2.2.2.2.2.2.moved hW.alike) hd K
theorem gj_ldcS (hd : decode M.2.1 pc = .ok (.ldc 9, 2)) (hM : M.1.cls = "LassoFinder$Reader") (kk : Gj g M lv (pc + 2) ls (zr (-21) :: st) σ out) : Gj g M lv pc ls st σ out := by
  intro p e s m args below meth c H locs lc σs ⟨h1, h2, h3, h4, h5, h6, h7, h8, h9, h10, h11⟩
  have hcx := h2
  obtain ⟨hx, hb, hml, hrr, hlk, hown, hnm, hW, hh, hsz⟩ := hcx
  have K := kk p e s m args below meth c H locs lc σs ⟨h1, h2, h3, h4, h5, h6, h7, h8, h9, h10, zmem (by simp [zok, zokr]) h11⟩
  exact va_ldcS hx hb hown (by rw [hM]; exact h1.2.2.2.2.2.2.2.2.2.2.2.2.1.1.warm hW) hd K
theorem gj_fmt (hd : decode M.2.1 pc = .ok (.getstatic idx, 3)) (hq : Cond.fieldLink M.1.cls idx "jdk/internal/util/Preconditions" "SIOOBE_FORMATTER" "Ljava/util/function/BiFunction;" ∈ lw_all) (k : Gj g M lv (pc + 3) ls ((4, -22) :: st) σ out) : Gj g M lv pc ls st σ out :=
  gj_gets (C := "jdk/internal/util/Preconditions") (v := (4, -22)) (fun hg => hg.2.2.2.2.2.2.2.2.2.2.2.2.2.1) (fun _ => by simp [zok]) hd hq (Or.inl rfl) k
/-- two constants that are one -/
theorem gj_acmp_same {off : Int} (tgt : Nat) (hd : decode M.2.1 pc = .ok (.if_acmp .ne off, 3)) (ht : (pc : Int) + off = (tgt : Int)) (k : Gj g M lv (pc + 3) ls st σ out) : Gj g M lv pc ls ((4, -23) :: (4, -23) :: st) σ out := by
  intro p e s m args below meth c H locs lc σs ⟨h1, h2, h3, h4, h5, h6, h7, h8, h9, h10, h11⟩
  have hcx := h2
  obtain ⟨hx, hb, hml, hrr, hlk, hown, hnm, hW, hh, hsz⟩ := hcx
  have K := k p e s m args below meth c H locs lc σs ⟨h1, h2, h3, h4, h5, h6, h7, h8, h9, h10, ztl (ztl h11)⟩
  simp only [List.map_cons, show zval g (4, -23) = zref g (-23) from rfl, zref_rf]
  exact lv_acmp_ne hx hb hd ht (fun e => absurd rfl e) (fun _ => K)
end Y6

set_option maxRecDepth 100000
def znX (σ : zM) (k : Nat) : Option zM := if zN σ + 1 ≤ zE σ ∧ zU σ + 6 ≤ 7287785 then some (zF σ, zA σ, fun a => if a = zN σ then (k, 0) else zK σ a, zN σ + 1, zU σ + 6, zE σ) else none
theorem z_notrace {g : zG} (hg : zgok g) {e : Env} (h : (zl g).admits e) : e.platform.stackTraces = false := by
  have h1 := h.2.2.2.2.1
  rw [h1]
  show (zl g).stackTraces = false
  have hf : (zl g).flags = flags0 := hg.2.2.2.2.2.2.2.2.2.2.1
  unfold Launch.stackTraces
  rw [hf]
  decide +kernel
section Z6
variable {g : zG} {M M' : zT} {lv pc : Nat} {ls : List (Nat × zV)} {st : List zV} {σ : zM} {out : zO} {idx : Nat}
theorem zHp_old {H : Heap} {s : State} (h : zHp g σ s.heap) : zold g s := fun q hq => h.2.2.1 q hq
theorem zHp_nost {H : Heap} (hH : zHp g σ H) {a : Nat} {cell : Cell} (ha : zB g ≤ a) (hc : H[a]? = some cell) : cell.vm.isStatics = false := by
  have hlt : a < zN σ := by rw [← hH.1]; exact (Array.getElem?_eq_some_iff.mp hc).1
  obtain ⟨-, h⟩ := hH.2.2.2 a (hH.2.1.2.2 a ha hlt)
  unfold zcell at h
  split at h
  · obtain ⟨r, -, ⟨cell', q1, q2, q3, -⟩, -⟩ := h
    cases hc.symm.trans q1
    rw [q3]; rfl
  · split at h
    · obtain ⟨cell', q1, q2, q3, -⟩ := h
      cases hc.symm.trans q1
      exact q3
    · cases hc.symm.trans h.1
      rfl
theorem gj_excNew {k ic : Nat} {σ' : zM} (hk : 51 ≤ k ∧ k ≤ 54) (hv : znX σ k = some σ') (hlv : 6 ≤ lv) (hws : (st.map (fun v => if v.1 = 1 then 2 else 1)).sum ≤ 20)
    (hd0 : decode M.2.1 pc = .ok (.new idx, 3)) (hd1 : decode M.2.1 (pc + 3) = .ok (.dup, 1)) (hd2 : decode M.2.1 (pc + 4) = .ok (.invokespecial ic, 3)) (q1 : Cond.classLink M.1.cls idx (zex k) ∈ lw_all) (q2 : Cond.methodLink M.1.cls ic (Bundle.init0 (zex k)) ∈ lw_all)
    (kk : Gj g M lv (pc + 7) ls (zr (zN σ) :: st) σ' out) : Gj g M lv pc ls st σ out := by
  intro p e s m args below meth c H locs lc σs ⟨h1, h2, h3, h4, hz5, h6, h7, h8, h9, h10, h11⟩
  have hcx := h2
  obtain ⟨hx, hb, hml, hr, hlk, hown, hnm, hW, hh, hsz⟩ := hcx
  unfold znX at hv
  split at hv
  · rename_i hroom
    obtain ⟨hr1, hr2⟩ := hroom
    have hE : zE σ = zB g + 600384 := h3.2.1.2.1
    have hbN : zB g ≤ zN σ := h3.2.1.1
    have hOs : zold g s := fun q hq => hsz.2.2.1 q hq
    obtain ⟨hch, hown', hfit⟩ := zexA_all hk
    have wi : (Cond.instantiable (zex k) 6).before args s = true := zw2 h1 (hown' _ (by simp [zownA])).1 (hown' _ (by simp [zownA])).2 hW hOs args
    have wn : (Cond.initialized (zex k)).before args s = true := zw2 h1 (hown' _ (by simp [zownA])).1 (hown' _ (by simp [zownA])).2 hW hOs args
    obtain ⟨cX, kX, hcX, hkX, -⟩ := Cond.instantiable_spec wi
    refine W.newcK hx hb hown (zw h1 q1 hW args) wi wn rfl hd0 (by show _ ≤ zB g + 600384 - zN σs; omega) (by show _ ≤ 7287785 - zU σs; omega) hcX h3.1 fun H' kC w0 w1 w2 w3 => ?_
    cases hkX.symm.trans w0
    refine lv_dup (pc := pc + 3) hx hb hd1 rfl ?_
    intro T hT X
    have hss : s.heap.size ≤ zN σ := by rw [hsz.1]; exact hz5
    obtain ⟨vm', cell', L, X', e1, e2, e3, st'⟩ := z_ctor (names := ["java/lang/RuntimeException", "java/lang/Exception"]) X hx (z_notrace h1 X.admits) hown hfit (by decide +kernel) (zexW h1 hk hW hOs q2 args)
      (fun x hxl cell hc => zHp_nost hsz (h4 x hxl) hc) hcX hkX (a := zN σ) (by rw [hT]; exact w1) hss (g := F0 m (pc + 4) lc (.ref (zN σ) :: .ref (zN σ) :: st.map (zval g))) rfl (by rw [hml]; exact h9.1) (rest := .ref (zN σ) :: st.map (zval g)) rfl (by rw [hb]; exact hd2)
      (by show 2 + 3 < lv; omega) (by
        show 2 * 0 + ((.ref (zN σ) :: st.map (zval g)).map fun v => v.category).sum + (13 * (2 + 1) + 41) ≤ 46 * lv + 192
        rw [List.map_cons, List.sum_cons, zcatsum]
        show 2 * 0 + (1 + _) + _ ≤ _
        omega)
    have hlo : ∀ q ∈ locs ++ L, zB g ≤ q.base := fun q hq => by
      rcases List.mem_append.mp hq with h | h
      · exact h4 q h
      · rw [e3 q h]; exact hbN
    have hheap : ((T.setVm vm').setCell (zN σ) cell').heap = H'.setIfInBounds (zN σ) cell' := by rw [← hT]; rfl
    have hlt : zN σ < H'.size := by rw [w2]; omega
    cases hv
    have K := kk p e s m args below meth c (H'.setIfInBounds (zN σ) cell') (locs ++ L) lc σs ⟨h1, h2, ?_, hlo, by show zN σs ≤ zN σ + 1; omega, by show zU σs ≤ zU σ + 6; omega, by show zN σ + 1 ≤ _; omega, by show zU σ + 6 ≤ _; omega, h9, h10, zmem ?_ h11⟩
    · simp only [List.map_cons, zval_r, zref_at g (Int.natCast_nonneg (zN σ)), Int.toNat_natCast] at K
      have e4 : zN σ + 1 - zN σs = zN σ - zN σs + 1 := by omega
      have e5 : zU σ + 6 - zU σs = zU σ - zU σs + 6 := by omega
      rw [← e4, ← e5] at X'
      obtain ⟨t, a1, b1⟩ := K _ hheap X'
      exact ⟨t, st' t a1, b1⟩
    · refine zHp_new (kc := (k, 0)) h3 (by show k ≠ 0; omega) rfl rfl (fun f a ha => rfl) (fun a ha => rfl) (fun a => rfl) (by rw [Array.size_setIfInBounds, w2, h3.1]) (fun q hq => ?_) ?_
      · rw [Array.getElem?_setIfInBounds_ne (by rw [h3.1] at hq; omega)]
        exact w3 q (by rw [← h3.1]; exact hq)
      · unfold zcell
        have ek : (zK ((zF σ, zA σ, fun a => if a = zN σ then (k, 0) else zK σ a, zN σ + 1, zU σ + 6, zE σ) : zM) (zN σ)) = (k, 0) := if_pos rfl
        rw [ek]
        dsimp only
        rw [if_neg (by omega), if_pos (by omega)]
        refine ⟨cell', ?_, (by rw [e2]; exact (fun h => by cases h)), (by rw [e2]; rfl), ?_⟩
        · rw [Array.getElem?_setIfInBounds_self, if_pos hlt]
        · rw [e1]
          rw [← hW.alike.findClass]
          exact hcX
    · simp only [zok, zokr]
      simp
      omega
  · cases hv
/-- it is thrown, and nothing here catches it -/
theorem gj_athrow {k : Nat} {a : Int} {rest : List zV} (ha : 0 ≤ a) (hk : (zK σ a.toNat).1 = k + 51) (hk4 : k ≤ 3) (hd : decode M.2.1 pc = .ok (.athrow, 1)) (hcov : M.2.2.2.2.all (fun h => !(decide (h.1 ≤ pc) && decide (pc < h.2.1))) = true) : Gj g M lv pc ls (zr a :: rest) σ (k + 1, zr a, σ) := by
  intro p e s m args below meth c H locs lc σs ⟨h1, h2, h3, h4, h5, h6, h7, h8, h9, h10, h11⟩
  have hcx := h2
  obtain ⟨hx, hb, hml, hret, hlk, hown, hnm, hW, hh, hsz⟩ := hcx
  intro T hT X
  have hout : ∀ y ∈ c.exceptionTable.toList, covers y pc = false := by
    intro y hy
    have hm : (y.startPc, y.endPc, y.handlerPc, y.catchType) ∈ M.2.2.2.2 := by
      rw [← hh]
      exact List.mem_map.mpr ⟨y, hy, rfl⟩
    have := List.all_eq_true.mp hcov _ hm
    simp [covers] at this ⊢
    omega
  obtain ⟨l1, l2, l3, l4, l5⟩ := X.athrowLeaves hx (g := F0 m pc lc ((zr a :: rest).map (zval g))) rfl rfl rfl hout (a := a.toNat) (rest := rest.map (zval g)) (by show _ = _; rw [List.map_cons, zval_r, zref_at g ha]) (by rw [hb]; exact hd) hlk
  refine ⟨_, l1, .threw a.toNat, l2, l3, ?_, ?_, l4, h5, h6, ⟨h7, h8⟩, locs, l5, h4⟩
  · simp only [zout]
    rw [if_neg (by omega)]
    refine ⟨by simp, ?_, by rw [hk], by omega⟩
    have := (h3.2.2.2 a.toNat (by omega)).1
    show (zB g : Int) ≤ a
    omega
  · show zHp g σ T.heap
    rw [hT]; exact h3
end Z6

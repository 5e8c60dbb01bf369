set_option maxRecDepth 100000
theorem z_nc : ∀ k, 51 ≤ k → k ≤ 54 → ∀ k', 51 ≤ k' → k' ≤ 54 → k ≠ k' → Cond.not (.castable (zex k) (zex k')) ∈ flatC (Jvm.Cond.and given_1 narrow_1) := by
  have h : (List.range 4).all (fun i => (List.range 4).all fun j => i == j || decide (Cond.not (.castable (zex (51 + i)) (zex (51 + j))) ∈ flatC (Jvm.Cond.and given_1 narrow_1))) = true := by decide +kernel
  intro k h1 h2 k' h3 h4 hne
  have h5 := List.all_eq_true.mp h (k - 51) (List.mem_range.mpr (by omega))
  have h6 := List.all_eq_true.mp h5 (k' - 51) (List.mem_range.mpr (by omega))
  rw [show 51 + (k - 51) = k by omega, show 51 + (k' - 51) = k' by omega] at h6
  simp only [Bool.or_eq_true, beq_iff_eq, decide_eq_true_eq] at h6
  rcases h6 with h6 | h6
  · omega
  · exact h6
section Z9
variable {g : zG} {M M' : zT} {lv pc : Nat} {ls : List (Nat × zV)} {st : List zV} {σ : zM} {out : zO} {idx : Nat}
theorem zex_same (hg : zgok g) {s : State} (hW : (zs g).WarmedH s.vm) {k : Nat} (hk : 51 ≤ k ∧ k ≤ 54) {c : ClassId} (hc : s.vm.findClass (zex k) = some c) : s.vm.assignable c c = true := by
  obtain ⟨-, h2, -⟩ := zexA_all hk
  obtain ⟨c1, c2, w1, w2, w3⟩ := Cond.castable_spec (zwC hg (h2 (.castable (zex k) (zex k)) (by simp [zownA])).1 hW #[])
  cases hc.symm.trans w1
  cases hc.symm.trans w2
  exact w3
theorem zex_other (hg : zgok g) {s : State} (hW : (zs g).WarmedH s.vm) {k k' : Nat} (hk : 51 ≤ k ∧ k ≤ 54) (hk' : 51 ≤ k' ∧ k' ≤ 54) (hne : k ≠ k') {c c' : ClassId} (hc : s.vm.findClass (zex k) = some c) (hc' : s.vm.findClass (zex k') = some c') : s.vm.assignable c c' = false := by
  have h := z_flat hg (z_nc k hk.1 hk.2 k' hk'.1 hk'.2 hne)
  rw [hW.alike.assignable]
  rw [hW.alike.findClass] at hc hc'
  simp [Cond.before, Cond.holds, Cond.value, hc, hc'] at h
  exact h
/-- an entry of a method's table that lets an exception of kind k pass at pc -/
def zlets (M : zT) (pc k : Nat) (y : Nat × Nat × Nat × Nat) : Prop := ¬ (y.1 ≤ pc ∧ pc < y.2.1) ∨ (y.2.2.2 ≠ 0 ∧ ∃ k', 51 ≤ k' ∧ k' ≤ 54 ∧ k' ≠ k ∧ Cond.classLink M.1.cls y.2.2.2 (zex k') ∈ lw_all)
theorem z_fc (hg : zgok g) {s : State} (hW : (zs g).WarmedH s.vm) (hO : zold g s) {k : Nat} (hk : 51 ≤ k ∧ k ≤ 54) : ∃ c kc, s.vm.findClass (zex k) = some c ∧ s.vm.classes[c]? = some kc := by
  obtain ⟨-, h2, -⟩ := zexA_all hk
  have h3 := h2 (.instantiable (zex k) 6) (by simp [zownA])
  obtain ⟨c, kc, h4, h5, -⟩ := Cond.instantiable_spec (zw2 hg h3.1 h3.2 hW hO #[])
  exact ⟨c, kc, h4, h5⟩
theorem gj_callH {as rest : List zV} {len k : Nat} {v : zV} {σ' : zM} (hl : zLk g M pc len M' as rest σ) (hC : Cj g lv M' as σ (k + 1, v, σ')) (q4 : zcodeW M' ∈ lw_all) (q3 : Cond.initialized M'.1.cls ∈ lw_all) (hw : (rest.map (fun v => if v.1 = 1 then 2 else 1)).sum + M'.2.2.1 ≤ 35)
    (pre : List (Nat × Nat × Nat × Nat)) (y : Nat × Nat × Nat × Nat) (post : List (Nat × Nat × Nat × Nat)) (hsplit : M.2.2.2.2 = pre ++ y :: post) (hpre : ∀ z ∈ pre, zlets M pc (k + 51) z) (hcov : y.1 ≤ pc ∧ pc < y.2.1) (h0 : y.2.2.2 ≠ 0) (hq : Cond.classLink M.1.cls y.2.2.2 (zex (k + 51)) ∈ lw_all)
    (kk : Gj g M (lv + 1) y.2.2.1 ls [zr v.2] σ' out) : Gj g M (lv + 1) pc ls (as.reverse ++ rest) σ out := by
  intro p e s m args below meth c H locs lc σs ⟨h1, h2, h3, h4, h5, h6, h7, h8, h9, h10, h11⟩
  have hcx := h2
  obtain ⟨hx, hb, hml, hret, hlk, hown, hnm, hW, hh, hsz⟩ := hcx
  intro T hT X
  obtain ⟨vm₁, mk, ins, hd, X₁, hn, hst⟩ := hl (lc := lc) X h1 hW hx hb hown (by rw [hT]; exact h3)
  have hok : ∀ v ∈ as, zok g v := fun v hv => h11 v (List.mem_append_left _ (List.mem_reverse.mpr hv))
  obtain ⟨o, U', L, c1, c2, c3, c4, ⟨c9, c10⟩, c5, c6, c7, c8⟩ := zcall (f := F0 m pc lc (rest.map (zval g))) hC h1 hok X₁ hW (by show zHp g σ T.heap; rw [hT]; exact h3) h5 h6 h7 h8 q4 q3 rfl (by rw [hml]; exact h9.1) hd rfl (by show ((rest.map (zval g)).map fun v => v.category).sum + _ ≤ 35; rw [zcatsum]; exact hw) hn
  have hlo : ∀ q ∈ locs ++ L, zB g ≤ q.base := fun q hq => by
    rcases List.mem_append.mp hq with h | h
    · exact h4 q h
    · exact c5 q h
  simp only [zout] at c1
  rw [if_neg (by omega)] at c1
  obtain ⟨d1, d2, d3, d4⟩ := c1
  have c2 : zHp g σ' U'.heap := c2
  have d3 : (zK σ' v.2.toNat).1 = k + 51 := d3
  have d4 : k + 1 ≤ 4 := d4
  have d2 : (zB g : Int) ≤ v.2 := d2
  have hOs : zold g s := fun q hq => hsz.2.2.1 q hq
  have hkk : 51 ≤ k + 51 ∧ k + 51 ≤ 54 := by omega
  have hcl := (c2.2.2.2 v.2.toNat (by omega)).2
  unfold zcell at hcl
  rw [if_neg (by omega), if_pos (by omega)] at hcl
  obtain ⟨cell, g1, g2, g3, g4⟩ := hcl
  rw [d3] at g4
  have g4' : s.vm.findClass (zex (k + 51)) = some cell.cls := by rw [hW.alike.findClass]; exact g4
  obtain ⟨cX, kX, f1, f2⟩ := z_fc h1 hW hOs hkk
  cases g4'.symm.trans f1
  rw [hsplit] at hh
  obtain ⟨pre', r1, hs1, hs2, hs3⟩ := List.map_eq_append_iff.mp hh
  obtain ⟨x, post', hs4, hs5, hs6⟩ := List.map_eq_cons_iff.mp hs3
  rw [hs4] at hs1
  have hcx : covers x pc = true := by
    have e1 : x.startPc = y.1 := by rw [← hs5]
    have e2 : x.endPc = y.2.1 := by rw [← hs5]
    unfold covers
    rw [e1, e2]
    simp [hcov.1, hcov.2]
  have hct : x.catchType = y.2.2.2 := by rw [← hs5]
  have hhp : x.handlerPc = y.2.2.1 := by rw [← hs5]
  obtain ⟨vm', X', st'⟩ := z_caught c6 (a := v.2.toNat) (g := F0 m pc lc (rest.map (zval g))) hown rfl g1 g3 f2 pre' post' x hs1 (fun z hz => by
      have hz' : (z.startPc, z.endPc, z.handlerPc, z.catchType) ∈ pre := by rw [← hs2]; exact List.mem_map.mpr ⟨z, hz, rfl⟩
      rcases hpre _ hz' with h | ⟨h0', k', h51, h54, hne, hq'⟩
      · refine Or.inl ?_
        show (decide (z.startPc ≤ pc) && decide (pc < z.endPc)) = false
        simp only [Bool.and_eq_false_iff, decide_eq_false_iff_not]
        by_cases h' : z.startPc ≤ pc
        · exact Or.inr (fun h'' => h ⟨h', h''⟩)
        · exact Or.inl h'
      · by_cases hc' : covers z pc = true
        · obtain ⟨c', kc', f3, f4⟩ := z_fc h1 hW hOs ⟨h51, h54⟩
          exact Or.inr ⟨hc', h0', zex k', c', zw h1 hq' hW args, f3, zex_other h1 hW hkk ⟨h51, h54⟩ (Ne.symm hne) f1 f3⟩
        · exact Or.inl (by simpa using hc')) hcx (by rw [hct]; exact h0) (nm := zex (k + 51)) (cT := cell.cls) (by rw [hct]; exact zw h1 hq hW args) f1 (zex_same h1 hW hkk f1)
  have hv0 : (0 : Int) ≤ v.2 := by omega
  have K := kk p e s m args below meth c U'.heap (locs ++ L) lc σs ⟨h1, h2, c2, hlo, c3, c4, c9, c10, h9, h10, zmem (by simp [zok, zokr]; omega) (fun _ h => by cases h)⟩
  simp only [List.map_cons, List.map_nil, zval_r, zref_at g hv0] at K
  obtain ⟨t, a1, b1⟩ := K (U'.setVm vm') rfl X'
  refine ⟨t, hst t ((c8 _ d1).trans (st' t ?_)), b1⟩
  rw [hhp]
  exact a1
end Z9

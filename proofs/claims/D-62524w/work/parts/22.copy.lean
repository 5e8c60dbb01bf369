set_option maxRecDepth 100000
/-! System.arraycopy, clone, getClass of an Object[], constants that are only handed on -/
def zcpA (σ : zM) (a0 sp a dp n : Nat) : zM := (zF σ, fun a' i' => if a' = a then va_cpy (zA σ a0) (zA σ a) sp dp n i' else zA σ a' i', σ.2.2)
def zcp (σ : zM) (k : Nat) (a0 sp a dp n : Int) : Option zM :=
  if (0 ≤ a0 ∧ 0 ≤ a ∧ (zK σ a0.toNat).1 = k ∧ (zK σ a.toNat).1 = k) ∧ (0 ≤ sp ∧ 0 ≤ dp ∧ 0 ≤ n ∧ sp + n ≤ (zK σ a0.toNat).2 ∧ dp + n ≤ (zK σ a.toNat).2) ∧
    (k = 105 → ∀ i, i < n.toNat → zA σ a0.toNat (sp.toNat + i) = -1 ∨ (0 ≤ zA σ a0.toNat (sp.toNat + i) ∧ zfit 105 (zK σ (zA σ a0.toNat (sp.toNat + i)).toNat).1 = true))
  then some (zcpA σ a0.toNat sp.toNat a.toNat dp.toNat n.toNat) else none
section Y5
variable {g : zG} {M M' : zT} {lv pc idx : Nat} {ls : List (Nat × zV)} {st : List zV} {σ : zM} {out : zO}
theorem zHp_arr {H H' : Heap} {k a : Nat} {f : Nat → Int} (hH : zHp g σ H) (hk : (zK σ a).1 = k) (h101 : 101 ≤ k) (e7 : zB g ≤ a) (q : zarr g σ k (zK σ a).2 a H) (hv : ∀ j, j < (zK σ a).2 → zokt g (zaty k) (f j))
    (w1 : H'[a]? = some (arrV (zY g k) (zK σ a).2 (fun j => zval g (ztag (zaty k), f j)))) (w2 : H'.size = H.size) (w3 : ∀ q, q ≠ a → H'[q]? = H[q]?) : zHp g (zF σ, fun a' i' => if a' = a then f i' else zA σ a' i', σ.2.2) H' := by
  refine ⟨w2.trans hH.1, hH.2.1, fun q hq => ?_, fun a' ha' => ?_⟩
  · rw [w3 q (by omega)]
    exact hH.2.2.1 q hq
  · obtain ⟨b1, b2⟩ := hH.2.2.2 a' ha'
    refine ⟨b1, ?_⟩
    by_cases haa : a' = a
    · subst haa
      unfold zcell
      rw [show zK ((zF σ, fun a'' i' => if a'' = a' then f i' else zA σ a'' i', σ.2.2) : zM) a' = zK σ a' from rfl, if_neg (by omega), if_neg (by omega), hk]
      refine ⟨?_, q.2.1, q.2.2.1, fun j hj => ?_⟩
      · rw [w1]
        congr 2
        funext j
        show _ = zval g (ztag (zaty k), if a' = a' then f j else _)
        rw [if_pos rfl]
      · show zokt g (zaty k) (if a' = a' then f j else _)
        rw [if_pos rfl]
        exact hv j hj
    · refine zcell_kept b2 rfl (fun f' => rfl) ?_ (w3 a' haa)
      funext j
      show (if a' = a then f j else _) = _
      rw [if_neg haa]
theorem znn {z : Int32} (hz : ¬ z < 0) : z.toInt = (z.toNatClampNeg : Int) := by
  have hz0 : (0 : Int) ≤ z.toInt := by
    have := Int32.not_lt.mp hz
    simpa using Int32.le_iff_toInt_le.mp this
  show z.toInt = ((z.toInt.toNat : Nat) : Int)
  omega
theorem znlt {i : Int} (h0 : 0 ≤ i) (h : i < 2147483648) : ¬ Int32.ofInt i < 0 := by
  rw [Int32.lt_iff_toInt_lt, Int32.toInt_ofInt_of_le (by omega) (by omega)]
  exact Int.not_lt.mpr h0
theorem zcp_some {k : Nat} {a0 sp a dp n : Int} {σ' : zM} (h : zcp σ k a0 sp a dp n = some σ') : ((0 ≤ a0 ∧ 0 ≤ a ∧ (zK σ a0.toNat).1 = k ∧ (zK σ a.toNat).1 = k) ∧ (0 ≤ sp ∧ 0 ≤ dp ∧ 0 ≤ n ∧ sp + n ≤ (zK σ a0.toNat).2 ∧ dp + n ≤ (zK σ a.toNat).2) ∧
    (k = 105 → ∀ i, i < n.toNat → zA σ a0.toNat (sp.toNat + i) = -1 ∨ (0 ≤ zA σ a0.toNat (sp.toNat + i) ∧ zfit 105 (zK σ (zA σ a0.toNat (sp.toNat + i)).toNat).1 = true))) ∧ σ' = zcpA σ a0.toNat sp.toNat a.toNat dp.toNat n.toNat := by
  unfold zcp at h
  split at h
  · rename_i hc
    exact ⟨hc, (Option.some.inj h).symm⟩
  · cases h
theorem gj_acopy {k : Nat} {a0 sp a dp n : Int} {σ' : zM} (hk : k = 104 ∨ k = 105) (hv : zcp σ k a0 sp a dp n = some σ') (hlv : 1 ≤ lv) (hws : (st.map (fun v => if v.1 = 1 then 2 else 1)).sum ≤ 20)
    (hd : decode M.2.1 pc = .ok (.invokestatic idx, 3)) (q1 : Cond.methodLink M.1.cls idx arraycopyName ∈ lw_all) (q2 : Cond.native arraycopyName ∈ lw_all) (q3 : Cond.static arraycopyName ∈ lw_all) (q4 : Cond.initialized "java/lang/System" ∈ lw_all)
    (kk : Gj g M lv (pc + 3) ls st σ' out) : Gj g M lv pc ls (zi n :: zi dp :: zr a :: zi sp :: zr a0 :: st) σ out := by
  intro p e s m args below meth c H locs lc σs ⟨h1, h2, h3, h4, h5, h6, h7, h8, h9, h10, h11⟩
  have hc := h2
  obtain ⟨hx, hb, hml, hr, hlk, hown, hnm, hW, hh, hsz⟩ := hc
  obtain ⟨⟨⟨ha0, ha, hk0, hk1⟩, ⟨hsp, hdp, hn0, hs1, hs2⟩, href⟩, rfl⟩ := zcp_some hv
  have h101 : 101 ≤ k := by omega
  have hz0 := zarr_at h3 hk0 h101
  have hz1 := zarr_at h3 hk1 h101
  obtain ⟨hb0, r1, r2, r3, r4⟩ := hz0
  obtain ⟨hb1, t1, t2, t3, t4⟩ := hz1
  have e0 : (Int32.ofInt n).toNatClampNeg = n.toNat := zcl_nat hn0 (by omega)
  have e1 : (Int32.ofInt sp).toNatClampNeg = sp.toNat := zcl_nat hsp (by omega)
  have e2 : (Int32.ofInt dp).toNatClampNeg = dp.toNat := zcl_nat hdp (by omega)
  have l0 : ¬ Int32.ofInt n < 0 := znlt hn0 (by omega)
  have l1 : ¬ Int32.ofInt sp < 0 := znlt hsp (by omega)
  have l2 : ¬ Int32.ofInt dp < 0 := znlt hdp (by omega)
  simp only [List.map_cons, zval_r, zref_at g ha, zref_at g ha0, zval_i]
  intro T hT X
  obtain ⟨-, k0, hkk0, cm0, hkd0⟩ := zarr_of (n := (zK σ a0.toNat).2) (z := fun j => zval g (ztag (zaty k), zA σ a0.toNat j)) h1 hW h101 r3
  have hcat : ((st.map (zval g)).map fun v => v.category).sum ≤ 20 := by rw [zcatsum]; exact hws
  obtain ⟨vm', X', step⟩ := X.arraycopy hx hown (zw h1 q1 hW args) (zw h1 q2 hW args) (zw h1 q3 hW args) (zw h1 q4 hW args) (src := a0.toNat) (dst := a.toNat) (cs := arrV (zY g k) (zK σ a0.toNat).2 (fun j => zval g (ztag (zaty k), zA σ a0.toNat j))) (cd := arrV (zY g k) (zK σ a.toNat).2 (fun j => zval g (ztag (zaty k), zA σ a.toNat j))) (srcPos := Int32.ofInt sp) (destPos := Int32.ofInt dp) (n := Int32.ofInt n) (by rw [hT]; exact r1) (by rw [hT]; exact t1)
    (fun _ h => by cases h) (fun _ h => by cases h) (fun h => by cases h) (fun h => by cases h) hkk0 hkk0 hkd0 hkd0 (by simp) l1 l2 l0
    (by rw [znn l1, znn l0, e0, e1, arrV_size]; omega)
    (by rw [znn l2, znn l0, e0, e2, arrV_size]; omega)
    (fun vm₁ hal i hi => by
      rw [e0] at hi
      have e : (arrV (zY g k) (zK σ a0.toNat).2 (fun j => zval g (ztag (zaty k), zA σ a0.toNat j))).slots.getD ((Int32.ofInt sp).toNatClampNeg + i) .null = zval g (ztag (zaty k), zA σ a0.toNat (sp.toNat + i)) := by
        rw [Array.getD_eq_getD_getElem?, e1, arrV_read _ _ (by omega)]
        rfl
      rw [e]
      rcases hk with rfl | rfl
      · have ho := r4 (sp.toNat + i) (by omega)
        have hn := (znf (g := g) (t := .byte) rfl ho).2
        rw [show zval g (ztag (zaty 104), zA σ a0.toNat (sp.toNat + i)) = .int (Int32.ofInt (zA σ a0.toNat (sp.toNat + i))) from zval_i g _]
        exact ⟨hn, trivial⟩
      · rw [show zval g (ztag (zaty 105), zA σ a0.toNat (sp.toNat + i)) = zref g (zA σ a0.toNat (sp.toNat + i)) from zval_r g _]
        rcases href rfl i hi with hq | ⟨hq0, hq⟩
        · rw [hq]
          exact ⟨rfl, trivial⟩
        · rw [zref_at g hq0]
          obtain ⟨ci, r, E', c1, c2, c3, c4, c5, -⟩ := zfit_as hq
          obtain ⟨hbv, hcv⟩ := h3.2.2.2 (zA σ a0.toNat (sp.toNat + i)).toNat (by omega)
          unfold zcell at hcv
          rw [if_pos (by omega), c1, Nat.add_sub_cancel] at hcv
          obtain ⟨r', c6, ⟨cellV, g1, g2, g3, -⟩, -⟩ := hcv
          cases c3.symm.trans c6
          obtain ⟨-, hfc, kC, hkC, hkind⟩ := (zva h1 hW).1 ci _ c3
          have hRA := (h1.2.2.1 105 (by omega) (by omega)).2.moved hW.alike
          rw [c4] at hRA
          obtain ⟨kA, comp, k1, k2', k3, -⟩ := hRA
          cases hkk0.symm.trans k1
          rw [c4] at hkd0
          cases hkd0.symm.trans k2'
          obtain ⟨kE, hkE, -⟩ := Vm.findClass_spec k3
          have has : s.vm.assignable (zC g ci) cm0 = true := by
            rcases c5 with c5 | ⟨c5, c7⟩
            · rw [c5] at hfc
              have : cm0 = zC g ci := Option.some.inj (k3.symm.trans hfc)
              rw [this]
              exact va_assign (s := s) (C := E') ⟨hfc, kC, hkC, hkind⟩
            · rw [c5] at hfc
              rw [c7] at k3
              obtain ⟨c0, t1, f1, f2, f3⟩ := Cond.castable_spec (zwC h1 q_castSO hW #[])
              cases hfc.symm.trans f1
              cases k3.symm.trans f2
              exact f3
          obtain ⟨kC', hkC', -⟩ := hal.2.2 _ _ hkC
          obtain ⟨kE', hkE', -⟩ := hal.2.2 _ _ hkE
          refine ⟨rfl, cellV, (show T.heap[_]? = some cellV by rw [hT]; exact g1), (fun q h => by rw [g3] at h; cases h), ⟨kC', by rw [g2]; exact hkC'⟩, ⟨kE', hkE'⟩, ?_⟩
          show vm₁.assignable _ _ = true
          rw [hal.assignable, g2]
          exact has)
    (g := F0 m pc lc (.int (Int32.ofInt n) :: .int (Int32.ofInt dp) :: .ref a.toNat :: .int (Int32.ofInt sp) :: .ref a0.toNat :: st.map (zval g))) rfl (by rw [hml]; exact h9.1) (rest := st.map (zval g)) rfl (by rw [hb]; exact hd) hlv
    (by
      show 2 * 0 + ((st.map (zval g)).map fun v => v.category).sum + (nativeFrameWords "java/lang/System" "arraycopy" 5 + 11) ≤ 46 * lv + 192
      have : nativeFrameWords "java/lang/System" "arraycopy" 5 + 11 ≤ 100 := by decide +kernel
      omega)
  have ec : copied (arrV (zY g k) (zK σ a0.toNat).2 (fun j => zval g (ztag (zaty k), zA σ a0.toNat j))) (arrV (zY g k) (zK σ a.toNat).2 (fun j => zval g (ztag (zaty k), zA σ a.toNat j))) (Int32.ofInt sp) (Int32.ofInt dp) (Int32.ofInt n) = arrV (zY g k) (zK σ a.toNat).2 (fun j => zval g (ztag (zaty k), va_cpy (zA σ a0.toNat) (zA σ a.toNat) sp.toNat dp.toNat n.toNat j)) := by
    have := va_copied (fun z : Int => zval g (ztag (zaty k), z)) (zY g k) (zY g k) (n0 := (zK σ a0.toNat).2) (n1 := (zK σ a.toNat).2) (sp := sp.toNat) (dp := dp.toNat) (n := n.toNat) (zA σ a0.toNat) (zA σ a.toNat) (by omega)
    rw [← this]
    unfold copied
    rw [e0, e1, e2]
  rw [ec] at X' step
  have hl : a.toNat < H.size := (Array.getElem?_eq_some_iff.mp t1).1
  have hheap : ((T.setVm vm').setCell a.toNat (arrV (zY g k) (zK σ a.toNat).2 (fun j => zval g (ztag (zaty k), va_cpy (zA σ a0.toNat) (zA σ a.toNat) sp.toNat dp.toNat n.toNat j)))).heap = H.setIfInBounds a.toNat (arrV (zY g k) (zK σ a.toNat).2 (fun j => zval g (ztag (zaty k), va_cpy (zA σ a0.toNat) (zA σ a.toNat) sp.toNat dp.toNat n.toNat j))) := by rw [← hT]; rfl
  have hHp : zHp g (zcpA σ a0.toNat sp.toNat a.toNat dp.toNat n.toNat) (H.setIfInBounds a.toNat (arrV (zY g k) (zK σ a.toNat).2 (fun j => zval g (ztag (zaty k), va_cpy (zA σ a0.toNat) (zA σ a.toNat) sp.toNat dp.toNat n.toNat j)))) := by
    refine zHp_arr h3 hk1 h101 hb1 ⟨t1, t2, t3, t4⟩ (fun j hj => ?_) (by simp [Array.getElem?_setIfInBounds, hl]) (by simp) (fun q hq => by simp [Array.getElem?_setIfInBounds, Ne.symm hq])
    unfold va_cpy
    split
    · exact r4 _ (by omega)
    · exact t4 j hj
  obtain ⟨t, a1, b1⟩ := kk p e s m args below meth c _ (locs ++ ((arrV (zY g k) (zK σ a0.toNat).2 (fun j => zval g (ztag (zaty k), zA σ a0.toNat j))).stretch (Int32.ofInt sp).toNatClampNeg (Int32.ofInt n).toNatClampNeg).zipIdx.map fun q => ⟨a.toNat, (Int32.ofInt dp).toNatClampNeg + q.2⟩) lc σs ⟨h1, h2, hHp, fun q hq => by
      rcases List.mem_append.mp hq with h | h
      · exact h4 q h
      · obtain ⟨z, -, hz⟩ := List.mem_map.mp h
        rw [← hz]
        exact hb1, h5, h6, h7, h8, h9, h10, ztl (ztl (ztl (ztl (ztl h11))))⟩ _ hheap X'
  exact ⟨t, step t a1, b1⟩
end Y5

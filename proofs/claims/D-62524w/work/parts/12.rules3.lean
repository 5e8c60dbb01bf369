set_option maxRecDepth 100000
section Z4
variable {g : zG} {M M' : zT} {lv pc : Nat} {ls : List (Nat × zV)} {st : List zV} {σ : zM} {out : zO} {idx : Nat}
theorem zLk_F {ci n cnt : Nat} {x : MethodName} {r : vw_C} {a : Int} {as rest : List zV} (hp : zplain M' n) (hxm : x.name = M'.1.name ∧ x.desc = M'.1.desc) (hxc : x.cls ≠ "java/lang/invoke/MethodHandle" ∧ x.cls ≠ "java/lang/invoke/VarHandle") (hn : as.length = n) (hc : zcl[ci]? = some r) (ha : 0 ≤ a) (hk : (zK σ a.toNat).1 = ci + 1) (hd : decode M.2.1 pc = .ok (.invokeinterface idx cnt, 5))
    (q1 : Cond.methodLink M.1.cls idx x ∈ lw_all) (q2 : Cond.instanceMethod M'.1 ∈ lw_all) (q3 : Cond.selects r.1 x M'.1 ∈ lw_all) (q4 : zcodeW M' ∈ lw_all)
    (q5 : Cond.declares x ∈ lw_tbl) (q6 : Cond.interfaceMethod x.cls x.cls x.name x.desc ∈ lw_tbl) (q7 : Cond.publicMethod M'.1 ∈ lw_tbl) (q8 : Cond.unhidden r.1 x.name x.desc ∈ lw_tbl) (q9 : Cond.castable r.1 x.cls ∈ lw_tbl) : zLk g M pc 5 M' (zr a :: as) rest σ := by
  intro p e R s m args below meth c T locs cells slots lc X hg hW hx hb hown hH
  have hF : va_Fw r.1 x M'.1 s := va_Fw.moved hxc hW.alike (va_Fw.of (hg.1 _ q5) (hg.1 _ q6) (hg.1 _ q7) (hg.1 _ q8) (hg.1 _ q9))
  have hdecl : (Cond.declares x).before args s = true := va_any rfl hF.1
  have hface : (Cond.interfaceMethod x.cls x.cls x.name x.desc).before args s = true := va_any rfl hF.2.1
  have hpub : (Cond.publicMethod M'.1).before args s = true := va_any rfl hF.2.2.1
  have hunh : (Cond.unhidden r.1 x.name x.desc).before args s = true := va_any rfl hF.2.2.2.1
  have hcast : (Cond.castable r.1 x.cls).before args s = true := va_any rfl hF.2.2.2.2
  obtain ⟨r0, rr, hnx, hrm, hstR, hsigR⟩ := Cond.declares_spec hdecl
  obtain ⟨cL, kL, r1, hcL, hkL, hiL, hfoundL, hn1⟩ := Cond.interfaceMethod_spec hface
  cases hnx.symm.trans hn1
  have hr0cls : r0.cls = cL := Option.some.inj ((findClass_of_methodNamed hnx).symm.trans hcL)
  obtain ⟨hnameR, hdescR⟩ := name_of_methodNamed hnx hrm
  obtain ⟨mk, methM, hnamed, hmethM, -, habM⟩ := Cond.instanceMethod_spec (zw hg q2 hW args)
  obtain ⟨cellB, kB, hcell, hobj, hcls, hkB⟩ := zrecv hg hW hH hc ha hk
  obtain ⟨c2, r2, m2, w1, w2, w3, w4, -⟩ := Cond.selects_spec (zw hg q3 hW args)
  cases hcls.symm.trans w1
  cases hfoundL.symm.trans w2
  cases hnamed.symm.trans w3
  have hselP : selectMethod e.platform s.vm cellB.cls r0 = .method mk := by rw [Launch.admits_selectMethod X.admits]; exact w4
  have hpubM : hasFlag methM.accessFlags Acc.public_ = true := Cond.publicMethod_spec hnamed hmethM hpub
  have hway : ((cellB.cls :: s.vm.superclasses cellB.cls).any fun k => (declaredIn s.vm rr.name rr.desc k).any fun (_, z) => z.isPrivate || z.isStatic) = false := by
    rw [hnameR, hdescR]; exact Cond.unhidden_spec hcls hunh
  obtain ⟨c3, t3, v1, v2, v3⟩ := Cond.castable_spec hcast
  cases hcls.symm.trans v1
  cases hcL.symm.trans v2
  have hnum : n = rr.sig.parameters.length := by
    have := hp.2
    rw [← hxm.2, hsigR] at this
    exact (Option.some.inj this).symm
  obtain ⟨vm₁, X₁, hstep₁⟩ := X.invokeinterface hx hown (zw hg q1 hW args) hnx hrm hstR (by rw [hr0cls]; exact hkL) hiL hxc (a := a.toNat) (cell := cellB) (kcell := kB) hcell
    (fun z h => by rw [h] at hobj; cases hobj) hkB (by rw [hr0cls]; exact v3) hselP hmethM hway hpubM habM (g := F0 m pc lc (((zr a :: as).reverse ++ rest).map (zval g))) rfl (argsL := as.map (zval g)) (rest := rest.map (zval g)) (by rw [List.length_map, hn]; exact hnum) (by show _ = _; rw [zrev, zval_r, zref_at g ha]) (by rw [hb]; exact hd)
  refine ⟨vm₁, mk, _, by rw [hb]; exact hd, X₁, X₁.named hnamed, fun target h => hstep₁ _ fun acts => ?_⟩
  rw [doInvoke_state]
  simpa only [List.map_cons, zval_r, zref_at g ha] using h
theorem zLk_Sp {ci n : Nat} {r : vw_C} {a : Int} {as rest : List zV} (hp : zplain M' n) (hn : as.length = n) (hno : M'.1.name ≠ "<init>") (hc : zcl[ci]? = some r) (ha : 0 ≤ a) (hk : (zK σ a.toNat).1 = ci + 1) (hd : decode M.2.1 pc = .ok (.invokespecial idx, 3))
    (q1 : Cond.methodLink M.1.cls idx M'.1 ∈ lw_all) (q0 : Cond.sameMethod M'.1.cls M'.1.cls M'.1.name M'.1.desc ∈ lw_all) (q5 : Cond.superclass M.1.cls M'.1.cls ∈ lw_all) (q2 : Cond.instanceMethod M'.1 ∈ lw_all) (q4 : zcodeW M' ∈ lw_all) : zLk g M pc 3 M' (zr a :: as) rest σ := by
  intro p e R s m args below meth c T locs cells slots lc X hg hW hx hb hown hH
  obtain ⟨mk, methM, hnamed, hmethM, hstM, habM⟩ := Cond.instanceMethod_spec (zw hg q2 hW args)
  obtain ⟨mk', methM', hnamed', hmethM', hnum⟩ := zsig hp (zw hg q4 hW #[])
  cases hnamed.symm.trans hnamed'
  cases hmethM.symm.trans hmethM'
  obtain ⟨cellB, kC, hcell, hobj, hcls, hkC⟩ := zrecv hg hW hH hc ha hk
  obtain ⟨ps, dk, kp, hps, hdk, hkp, hsuper, -, -, hnid⟩ := Cond.superclass_spec hown (zw hg q5 hW args)
  have hn' : s.methodNamed? ⟨M'.1.cls, M'.1.name, M'.1.desc⟩ = some mk := hnamed
  have hpm : ps = mk.cls := Option.some.inj (hps.symm.trans (findClass_of_methodNamed hnamed))
  have hsub : s.vm.isSubclass ps mk.cls = true := by rw [hpm]; simp [Vm.isSubclass, Vm.isSubclassAux]
  obtain ⟨vm₁, X₁, hstep₁⟩ := X.invokespecialUp hx hown (zw hg q1 hW args) (zw hg q0 hW args) hn' hmethM hstM habM hno hdk hnid hps hsuper hsub (a := a.toNat) (cell := cellB) hcell
    (fun z h => by rw [h] at hobj; cases hobj) hkC (g := F0 m pc lc (((zr a :: as).reverse ++ rest).map (zval g))) rfl (argsL := as.map (zval g)) (rest := rest.map (zval g)) (by rw [List.length_map, hn]; exact hnum) (by show _ = _; rw [zrev, zval_r, zref_at g ha]) (by rw [hb]; exact hd)
  refine ⟨vm₁, mk, _, by rw [hb]; exact hd, X₁, X₁.named hnamed, fun target h => hstep₁ _ ?_⟩
  rw [doInvoke_state]
  simpa only [List.map_cons, zval_r, zref_at g ha] using h
/-- what a return leaves on the stack -/
def zpush (v : zV) (rest : List zV) : List zV := if v.1 = 3 then rest else v :: rest
theorem zcatsum (g : zG) (l : List zV) : ((l.map (zval g)).map fun v => v.category).sum = (l.map (fun v => if v.1 = 1 then 2 else 1)).sum := by
  congr 1
  rw [List.map_map]
  apply List.map_congr_left
  intro v _
  exact zcat g v
theorem gj_callR {as rest : List zV} {len : Nat} {v : zV} {σ' : zM} (hl : zLk g M pc len M' as rest σ) (hC : Cj g lv M' as σ (0, v, σ')) (q4 : zcodeW M' ∈ lw_all) (q3 : Cond.initialized M'.1.cls ∈ lw_all) (hw : (rest.map (fun v => if v.1 = 1 then 2 else 1)).sum + M'.2.2.1 ≤ 35)
    (k : Gj g M (lv + 1) (pc + len) ls (zpush v rest) σ' out) : Gj g M (lv + 1) pc ls (as.reverse ++ rest) σ out := by
  intro p e s m args below meth c H locs lc σs ⟨h1, h2, h3, h4, h5, h6, h7, h8, h9, h10, h11⟩
  have hcx := h2
  obtain ⟨hx, hb, hml, hret, hlk, hown, hnm, hW, hh, hsz⟩ := hcx
  intro T hT X
  obtain ⟨vm₁, mk, ins, hd, X₁, hn, hst⟩ := hl (lc := lc) X h1 hW hx hb hown (by rw [hT]; exact h3)
  have hok : ∀ v ∈ as, zok g v := fun v hv => h11 v (List.mem_append_left _ (List.mem_reverse.mpr hv))
  have hor : ∀ v ∈ rest, zok g v := fun v hv => h11 v (List.mem_append_right _ hv)
  obtain ⟨o, U', L, c1, c2, c3, c4, ⟨c9, c10⟩, c5, c6, c7, c8⟩ := zcall (f := F0 m pc lc (rest.map (zval g))) hC h1 hok X₁ hW (by show zHp g σ T.heap; rw [hT]; exact h3) h5 h6 h7 h8 q4 q3 rfl (by rw [hml]; exact h9.1) hd rfl (by show ((rest.map (zval g)).map fun v => v.category).sum + _ ≤ 35; rw [zcatsum]; exact hw) hn
  have hlo : ∀ q ∈ locs ++ L, zB g ≤ q.base := fun q hq => by
    rcases List.mem_append.mp hq with h | h
    · exact h4 q h
    · exact c5 q h
  simp only [zout, if_true] at c1
  by_cases h3' : v.1 = 3
  · rw [if_pos h3'] at c1
    have K := k p e s m args below meth c U'.heap (locs ++ L) lc σs ⟨h1, h2, c2, hlo, c3, c4, c9, c10, h9, h10, by unfold zpush; rw [if_pos h3']; exact hor⟩
    obtain ⟨t, a1, b1⟩ := K U' rfl c6
    refine ⟨t, hst t ((c7 none c1.1).trans ?_), b1⟩
    unfold zpush at a1
    rw [if_pos h3'] at a1
    exact a1
  · rw [if_neg h3'] at c1
    have K := k p e s m args below meth c U'.heap (locs ++ L) lc σs ⟨h1, h2, c2, hlo, c3, c4, c9, c10, h9, h10, by unfold zpush; rw [if_neg h3']; exact zmem (c1.2 h3') hor⟩
    obtain ⟨t, a1, b1⟩ := K U' rfl c6
    refine ⟨t, hst t ((c7 _ c1.1).trans ?_), b1⟩
    unfold zpush at a1
    rw [if_neg h3'] at a1
    exact a1
/-- the callee throws, and nothing here catches it -/
theorem gj_callT {as rest : List zV} {len k : Nat} {v : zV} {σ' : zM} (hl : zLk g M pc len M' as rest σ) (hC : Cj g lv M' as σ (k + 1, v, σ')) (q4 : zcodeW M' ∈ lw_all) (q3 : Cond.initialized M'.1.cls ∈ lw_all) (hw : (rest.map (fun v => if v.1 = 1 then 2 else 1)).sum + M'.2.2.1 ≤ 35)
    (hcov : M.2.2.2.2.all (fun h => !(decide (h.1 ≤ pc) && decide (pc < h.2.1))) = true) : Gj g M (lv + 1) pc ls (as.reverse ++ rest) σ (k + 1, v, σ') := by
  intro p e s m args below meth c H locs lc σs ⟨h1, h2, h3, h4, h5, h6, h7, h8, h9, h10, h11⟩
  have hcx := h2
  obtain ⟨hx, hb, hml, hret, hlk, hown, hnm, hW, hh, hsz⟩ := hcx
  intro T hT X
  obtain ⟨vm₁, mk, ins, hd, X₁, hn, hst⟩ := hl (lc := lc) X h1 hW hx hb hown (by rw [hT]; exact h3)
  have hok : ∀ v ∈ as, zok g v := fun v hv => h11 v (List.mem_append_left _ (List.mem_reverse.mpr hv))
  obtain ⟨o, U', L, c1, c2, c3, c4, ⟨c9, c10⟩, c5, c6, c7, c8⟩ := zcall (f := F0 m pc lc (rest.map (zval g))) hC h1 hok X₁ hW (by show zHp g σ T.heap; rw [hT]; exact h3) h5 h6 h7 h8 q4 q3 rfl (by rw [hml]; exact h9.1) hd rfl (by show ((rest.map (zval g)).map fun v => v.category).sum + _ ≤ 35; rw [zcatsum]; exact hw) hn
  have hlo : ∀ q ∈ locs ++ L, zB g ≤ q.base := fun q hq => by
    rcases List.mem_append.mp hq with h | h
    · exact h4 q h
    · exact c5 q h
  have c1' := c1
  simp only [zout] at c1'
  rw [if_neg (by omega)] at c1'
  have hout : ∀ y ∈ c.exceptionTable.toList, covers y pc = false := by
    intro y hy
    have hm : (y.startPc, y.endPc, y.handlerPc, y.catchType) ∈ M.2.2.2.2 := by
      rw [← hh]
      exact List.mem_map.mpr ⟨y, hy, rfl⟩
    have := List.all_eq_true.mp hcov _ hm
    simp [covers] at this ⊢
    omega
  obtain ⟨l1, l2, l3, l4, l5⟩ := c6.leaveThrown v.2.toNat (g := F0 m pc lc (rest.map (zval g))) rfl rfl rfl hout hlk
  refine ⟨_, hst _ ((c8 _ c1'.1).trans l1), .threw v.2.toNat, l2, l3, ?_, c2, l4, c3, c4, ⟨c9, c10⟩, locs ++ L, l5, hlo⟩
  rw [← c1'.1]
  exact c1
end Z4

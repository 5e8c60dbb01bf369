set_option maxRecDepth 100000
/-! calls whose receiver is a constant of the enum; private methods of a superclass -/
def zRcv (g : zG) (σ : zM) (a : Int) (C : String) : Prop :=
  ∀ {H : Heap} {s : State}, zgok g → (zs g).WarmedH s.vm → zHp g σ H → ∃ (b : Nat) (cell : Cell), zref g a = .ref b ∧ H[b]? = some cell ∧ cell.vm.isStatics = false ∧ s.vm.findClass C = some cell.cls
theorem zRcv_obj {g : zG} {σ : zM} {ci : Nat} {r : vw_C} {a : Int} (hc : zcl[ci]? = some r) (ha : 0 ≤ a) (hk : (zK σ a.toNat).1 = ci + 1) : zRcv g σ a r.1 := by
  intro H s hg hW hH
  obtain ⟨cell, kC, h1, h2, h3, -⟩ := zrecv hg hW hH hc ha hk
  exact ⟨a.toNat, cell, zref_at g ha, h1, h2, h3⟩
theorem zRcv_enum {g : zG} {σ : zM} {a : Int} (h : zen a = true) : zRcv g σ a "LassoFinder$Kind" := by
  intro H s hg hW hH
  obtain ⟨i, hi, rfl⟩ := zenE h
  have hE := (hg.2.2.2.1.moved hW.alike).kept (H1 := H) (fun a ha _ => hH.2.2.1 a ha)
  obtain ⟨cell, h1, h2, h3, -⟩ := (hE.1 i hi).2.1
  refine ⟨zad g i, cell, ?_, h1, h2, h3⟩
  unfold zref
  rw [if_neg (by omega), if_neg (by omega)]
  congr 2
  omega
section Y4
variable {g : zG} {M M' : zT} {pc idx : Nat} {σ : zM}
theorem zLk_R {n : Nat} {C : String} {a : Int} {as rest : List zV} (hp : zplain M' n) (hn : as.length = n) (hr : zRcv g σ a C) (hd : decode M.2.1 pc = .ok (.invokevirtual idx, 3))
    (q1 : Cond.methodLink M.1.cls idx M'.1 ∈ lw_all) (q2 : Cond.instanceMethod M'.1 ∈ lw_all) (q3 : Cond.selects C M'.1 M'.1 ∈ lw_all) (q4 : zcodeW M' ∈ lw_all) : zLk g M pc 3 M' (zr a :: as) rest σ := by
  intro p e R s m args below meth c T locs cells slots lc X hg hW hx hb hown hH
  obtain ⟨mk, methM, hnamed, hmethM, hstM, habM⟩ := Cond.instanceMethod_spec (zw hg q2 hW args)
  obtain ⟨mk', methM', hnamed', hmethM', hnum⟩ := zsig hp (zw hg q4 hW #[])
  cases hnamed.symm.trans hnamed'
  cases hmethM.symm.trans hmethM'
  obtain ⟨b, cellB, hrf, hcell, hobj, hcls⟩ := hr hg hW hH
  obtain ⟨c2, r2, m2, w1, w2, w3, w4, kP, hkP, hkPi⟩ := Cond.selects_spec (zw hg q3 hW args)
  cases hcls.symm.trans w1
  cases (State.methodFound?_of_named hnamed hp.1).symm.trans w2
  cases hnamed.symm.trans w3
  have hselP : selectMethod e.platform s.vm cellB.cls mk = .method mk := by rw [Launch.admits_selectMethod X.admits]; exact w4
  obtain ⟨vm₁, X₁, hstep₁⟩ := X.invokevirtual hx hown (zw hg q1 hW args) hnamed hmethM hstM hkP hkPi hp.1 (a := b) (cell := cellB) hcell
    (fun z h => by rw [h] at hobj; cases hobj) hselP hmethM habM hkP hkPi (g := F0 m pc lc (((zr a :: as).reverse ++ rest).map (zval g))) rfl (argsL := as.map (zval g)) (rest := rest.map (zval g)) (by rw [List.length_map, hn]; exact hnum) (by show _ = _; rw [zrev, zval_r, hrf]) (by rw [hb]; exact hd)
  refine ⟨vm₁, mk, _, by rw [hb]; exact hd, X₁, X₁.named hnamed, fun target h => hstep₁ _ fun acts => ?_⟩
  rw [doInvoke_state]
  simpa only [List.map_cons, zval_r, hrf] using h
theorem zLk_RN {n : Nat} {C host : String} {a : Int} {as rest : List zV} (hp : zplain M' n) (hn : as.length = n) (hr : zRcv g σ a C) (hd : decode M.2.1 pc = .ok (.invokevirtual idx, 3))
    (q1 : Cond.methodLinkNest M.1.cls idx M'.1 host ∈ lw_tbl) (q2 : Cond.instanceMethod M'.1 ∈ lw_all) (q3 : Cond.selects C M'.1 M'.1 ∈ lw_all) (q4 : zcodeW M' ∈ lw_all) : zLk g M pc 3 M' (zr a :: as) rest σ := by
  intro p e R s m args below meth c T locs cells slots lc X hg hW hx hb hown hH
  obtain ⟨mk, methM, hnamed, hmethM, hstM, habM⟩ := Cond.instanceMethod_spec (zw hg q2 hW args)
  obtain ⟨mk', methM', hnamed', hmethM', hnum⟩ := zsig hp (zw hg q4 hW #[])
  cases hnamed.symm.trans hnamed'
  cases hmethM.symm.trans hmethM'
  obtain ⟨b, cellB, hrf, hcell, hobj, hcls⟩ := hr hg hW hH
  obtain ⟨c2, r2, m2, w1, w2, w3, w4, kP, hkP, hkPi⟩ := Cond.selects_spec (zw hg q3 hW args)
  cases hcls.symm.trans w1
  cases (State.methodFound?_of_named hnamed hp.1).symm.trans w2
  cases hnamed.symm.trans w3
  have hselP : selectMethod e.platform s.vm cellB.cls mk = .method mk := by rw [Launch.admits_selectMethod X.admits]; exact w4
  obtain ⟨vm₁, X₁, hstep₁⟩ := X.invokevirtualNest hx hown (zwM hg q1 hW args) hnamed hmethM hstM hkP hkPi hp.1 (a := b) (cell := cellB) hcell
    (fun z h => by rw [h] at hobj; cases hobj) hselP hmethM habM hkP hkPi (g := F0 m pc lc (((zr a :: as).reverse ++ rest).map (zval g))) rfl (argsL := as.map (zval g)) (rest := rest.map (zval g)) (by rw [List.length_map, hn]; exact hnum) (by show _ = _; rw [zrev, zval_r, hrf]) (by rw [hb]; exact hd)
  refine ⟨vm₁, mk, _, by rw [hb]; exact hd, X₁, X₁.named hnamed, fun target h => hstep₁ _ fun acts => ?_⟩
  rw [doInvoke_state]
  simpa only [List.map_cons, zval_r, hrf] using h
theorem zLk_RU {n : Nat} {C : String} {x : MethodName} {a : Int} {as rest : List zV} (hp : zplain M' n) (hxm : x.name = M'.1.name ∧ x.desc = M'.1.desc) (hn : as.length = n) (hr : zRcv g σ a C) (hd : decode M.2.1 pc = .ok (.invokevirtual idx, 3))
    (q1 : Cond.methodLink M.1.cls idx x ∈ lw_all) (q0 : Cond.sameMethod x.cls M'.1.cls x.name x.desc ∈ lw_all) (q2 : Cond.instanceMethod M'.1 ∈ lw_all) (q3 : Cond.selects C x M'.1 ∈ lw_all) (q4 : zcodeW M' ∈ lw_all) : zLk g M pc 3 M' (zr a :: as) rest σ := by
  intro p e R s m args below meth c T locs cells slots lc X hg hW hx hb hown hH
  obtain ⟨mk, methM, hnamed, hmethM, hstM, habM⟩ := Cond.instanceMethod_spec (zw hg q2 hW args)
  obtain ⟨mk', methM', hnamed', hmethM', hnum⟩ := zsig hp (zw hg q4 hW #[])
  cases hnamed.symm.trans hnamed'
  cases hmethM.symm.trans hmethM'
  obtain ⟨cn, ck, r1, hcn, hck, hni, hf, hn1⟩ := Cond.sameMethod_found (zw hg q0 hW args)
  have hname : (⟨M'.1.cls, x.name, x.desc⟩ : MethodName) = M'.1 := by rw [hxm.1, hxm.2]
  have hn1' := hn1
  rw [hname] at hn1'
  cases hnamed.symm.trans hn1'
  obtain ⟨b, cellB, hrf, hcell, hobj, hcls⟩ := hr hg hW hH
  obtain ⟨c2, r2, m2, w1, w2, w3, w4, kP, hkP, hkPi⟩ := Cond.selects_spec (zw hg q3 hW args)
  cases hcls.symm.trans w1
  cases hf.symm.trans w2
  cases hnamed.symm.trans w3
  have hselP : selectMethod e.platform s.vm cellB.cls mk = .method mk := by rw [Launch.admits_selectMethod X.admits]; exact w4
  obtain ⟨vm₁, X₁, hstep₁⟩ := X.invokevirtualUp hx hown (zw hg q1 hW args) (zw hg q0 hW args) hp.1 hn1 hmethM hstM (a := b) (cell := cellB) hcell
    (fun z h => by rw [h] at hobj; cases hobj) hselP hmethM habM hkP hkPi (g := F0 m pc lc (((zr a :: as).reverse ++ rest).map (zval g))) rfl (argsL := as.map (zval g)) (rest := rest.map (zval g)) (by rw [List.length_map, hn]; exact hnum) (by show _ = _; rw [zrev, zval_r, hrf]) (by rw [hb]; exact hd)
  refine ⟨vm₁, mk, _, by rw [hb]; exact hd, X₁, X₁.named hnamed, fun target h => hstep₁ _ fun acts => ?_⟩
  rw [doInvoke_state]
  simpa only [List.map_cons, zval_r, hrf] using h
/-- a private method, of the receiver's class or of one above it -/
theorem zLk_P {n : Nat} {C : String} {xo yo : MethodName} {a : Int} {as rest : List zV} (hp : zplain M' n) (hn : as.length = n) (hr : zRcv g σ a C) (hyo : yo.cls = M'.1.cls) (hd : decode M.2.1 pc = .ok (.invokevirtual idx, 3))
    (q1 : Cond.methodLink M.1.cls idx M'.1 ∈ lw_all) (q2 : Cond.instanceMethod M'.1 ∈ lw_all) (q3 : Cond.selects C xo yo ∈ lw_all) (q5 : Cond.privateMethod M'.1 ∈ lw_tbl) (q4 : zcodeW M' ∈ lw_all) : zLk g M pc 3 M' (zr a :: as) rest σ := by
  intro p e R s m args below meth c T locs cells slots lc X hg hW hx hb hown hH
  obtain ⟨mk, methM, hnamed, hmethM, hstM, habM⟩ := Cond.instanceMethod_spec (zw hg q2 hW args)
  obtain ⟨mk', methM', hnamed', hmethM', hnum⟩ := zsig hp (zw hg q4 hW #[])
  cases hnamed.symm.trans hnamed'
  cases hmethM.symm.trans hmethM'
  obtain ⟨b, cellB, hrf, hcell, hobj, hcls⟩ := hr hg hW hH
  obtain ⟨c2, r2, m2, w1, w2, w3, w4, kP, hkP, hkPi⟩ := Cond.selects_spec (zw hg q3 hW args)
  have hmc : m2.cls = mk.cls := by
    have e1 := findClass_of_methodNamed w3
    have e2 := findClass_of_methodNamed hnamed
    rw [hyo] at e1
    exact Option.some.inj (e1.symm.trans e2)
  rw [hmc] at hkP
  have hselP : selectMethod e.platform s.vm cellB.cls mk = .method mk := by
    have e1 : (zs g).methodNamed? M'.1 = some mk := by
      rw [← State.methodNamed?_setVm hW.alike]
      exact hnamed
    have e2 : (zs g).vm.method? mk = some methM := by
      rw [← hW.alike.method?]
      exact hmethM
    exact selectMethod_private hmethM (Cond.privateMethod_at (hg.1 _ q5) mk _ e1 e2)
  obtain ⟨vm₁, X₁, hstep₁⟩ := X.invokevirtual hx hown (zw hg q1 hW args) hnamed hmethM hstM hkP hkPi hp.1 (a := b) (cell := cellB) hcell
    (fun z h => by rw [h] at hobj; cases hobj) hselP hmethM habM hkP hkPi (g := F0 m pc lc (((zr a :: as).reverse ++ rest).map (zval g))) rfl (argsL := as.map (zval g)) (rest := rest.map (zval g)) (by rw [List.length_map, hn]; exact hnum) (by show _ = _; rw [zrev, zval_r, hrf]) (by rw [hb]; exact hd)
  refine ⟨vm₁, mk, _, by rw [hb]; exact hd, X₁, X₁.named hnamed, fun target h => hstep₁ _ fun acts => ?_⟩
  rw [doInvoke_state]
  simpa only [List.map_cons, zval_r, hrf] using h
/-- a method that a class below has anew -/
theorem zLk_O {n : Nat} {C : String} {x xo yo : MethodName} {cd : ByteArray} {ml : Nat} {rt : Option FieldType} {a : Int} {as rest : List zV} (hp : zplain M' n) (hxc : x.cls ≠ "java/lang/invoke/MethodHandle" ∧ x.cls ≠ "java/lang/invoke/VarHandle") (hxd : x.desc = M'.1.desc) (hn : as.length = n) (hr : zRcv g σ a C) (hyo : yo.cls = x.cls) (hd : decode M.2.1 pc = .ok (.invokevirtual idx, 3))
    (q1 : Cond.methodLink M.1.cls idx x ∈ lw_all) (q2x : Cond.instanceMethod x ∈ lw_all) (q2 : Cond.instanceMethod M'.1 ∈ lw_all) (q3 : Cond.selects C x M'.1 ∈ lw_all) (q3o : Cond.selects C xo yo ∈ lw_all) (q4 : zcodeW M' ∈ lw_all) (q4x : Cond.code x cd ml rt ∈ lw_all) : zLk g M pc 3 M' (zr a :: as) rest σ := by
  intro p e R s m args below meth c T locs cells slots lc X hg hW hx hb hown hH
  obtain ⟨mk, methM, hnamed, hmethM, hstM, habM⟩ := Cond.instanceMethod_spec (zw hg q2 hW args)
  obtain ⟨mx, methX, hnamedX, hmethX, hstX, habX⟩ := Cond.instanceMethod_spec (zw hg q2x hW args)
  obtain ⟨mx', methX', hnamedX', hmethX', hnumX⟩ := zsig (M' := (x, cd, ml, rt, [])) (n := n) ⟨hxc, by show (parseMethodDescriptor x.desc).map _ = _; rw [hxd]; exact hp.2⟩ (zw hg (w := zcodeW (x, cd, ml, rt, [])) q4x hW #[])
  cases hnamedX.symm.trans hnamedX'
  cases hmethX.symm.trans hmethX'
  obtain ⟨b, cellB, hrf, hcell, hobj, hcls⟩ := hr hg hW hH
  obtain ⟨c2, r2, m2, w1, w2, w3, w4, kP, hkP, hkPi⟩ := Cond.selects_spec (zw hg q3 hW args)
  obtain ⟨c3, r3, m3, v1, v2, v3, v4, kQ, hkQ, hkQi⟩ := Cond.selects_spec (zw hg q3o hW args)
  cases hcls.symm.trans w1
  cases (State.methodFound?_of_named hnamedX hxc).symm.trans w2
  cases hnamed.symm.trans w3
  have hmc : m3.cls = mx.cls := by
    have e1 := findClass_of_methodNamed v3
    have e2 := findClass_of_methodNamed hnamedX
    rw [hyo] at e1
    exact Option.some.inj (e1.symm.trans e2)
  rw [hmc] at hkQ
  have hselP : selectMethod e.platform s.vm cellB.cls mx = .method mk := by rw [Launch.admits_selectMethod X.admits]; exact w4
  obtain ⟨vm₁, X₁, hstep₁⟩ := X.invokevirtual hx hown (zw hg q1 hW args) hnamedX hmethX hstX hkQ hkQi hxc (a := b) (cell := cellB) hcell
    (fun z h => by rw [h] at hobj; cases hobj) hselP hmethM habM hkP hkPi (g := F0 m pc lc (((zr a :: as).reverse ++ rest).map (zval g))) rfl (argsL := as.map (zval g)) (rest := rest.map (zval g)) (by rw [List.length_map, hn]; exact hnumX) (by show _ = _; rw [zrev, zval_r, hrf]) (by rw [hb]; exact hd)
  refine ⟨vm₁, mk, _, by rw [hb]; exact hd, X₁, X₁.named hnamed, fun target h => hstep₁ _ fun acts => ?_⟩
  rw [doInvoke_state]
  simpa only [List.map_cons, zval_r, hrf] using h
end Y4

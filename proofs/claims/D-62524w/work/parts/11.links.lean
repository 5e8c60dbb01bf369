set_option maxRecDepth 100000
section Z1
variable {Q : Unit → Pre} {E : CtlPost} {e : Env} {d : Bool} {acts : List Action} {s s₀ : State} {f : JFrame}
/-- an inherited static method, by the name that the code gives it -/
theorem z_statUp {index ci n c : Nat} {m : MethodId} {dk ck : Class} {cf : ClassFile} {name desc : String} (hs : s.topJava?.isSome) (hp : e.platform.polymorphicOnlyByInvokevirtual = true)
    (hW : s₀.WarmedH s.vm) (hE : s₀.MethodEntryUp e s.vm f.method.cls index c m ci) (h1 : s₀.vm.classes[f.method.cls]? = some dk) (h2 : dk.cf = some cf)
    (h3 : cf.constantPool[index]? = some (.methodref ci n)) (h4 : cf.constantPool.nameAndType? n = some (name, desc))
    (hck : s₀.vm.classes[c]? = some ck) (hnone : (ck.methods.any fun x => x.name == name && !x.isStatic && signaturePolymorphic ck x) = false) :
    wp (invokestatic.sem index) Q E e d acts (s.setTop f) ↔ wp (invokestatic.sem index) Q E e d acts ((s.setVm (s.vm.calledUp f.method.cls ci index c m)).setTop f) := by
  obtain ⟨hgc, hrc, hW₁, hgm⟩ := hE.classFirst
  obtain ⟨k₀, hk₀, he₀⟩ := hW.alike.2.2 _ _ h1
  obtain ⟨k₂, hk₂, he₂⟩ := hE.warmed.alike.2.2 _ _ h1
  obtain ⟨c₁, hc₁, hec₁⟩ := hW₁.alike.2.2 _ _ hck
  obtain ⟨c₂, hc₂, hec₂⟩ := hE.warmed.alike.2.2 _ _ hck
  have hb₀ := memberRef_ask_via (e := e) (via := false) hk₀ (by rw [he₀]; exact h2) (by simpa using h3) h4
  have hb₂ := memberRef_ask_via (e := e) (via := false) hk₂ (by rw [he₂]; exact h2) (by simpa using h3) h4
  have hn₁ : (c₁.methods.any fun x => x.name == name && !x.isStatic && signaturePolymorphic c₁ x) = false := by rw [hec₁]; exact hnone
  have hn₂ : (c₂.methods.any fun x => x.name == name && !x.isStatic && signaturePolymorphic c₂ x) = false := by rw [hec₂]; exact hnone
  have hs₁ : (s.setVm (s.vm.noted f.method.cls ci (.cls c))).topJava?.isSome := hs
  have hs₂ : (s.setVm (s.vm.calledUp f.method.cls ci index c m)).topJava?.isSome := hs
  have hL : ∀ {Q' : ClassId → Pre} {d' : Bool} {acts' : List Action}, wp (Jvm.resolveClassAt ci) Q' E e d' acts' (s.setTop f) ↔ Q' c d' acts' ((s.setVm (s.vm.noted f.method.cls ci (.cls c))).setTop f) :=
    W.resolveClassAt_links (t := s.setTop f) (State.method?_setTop f hs) hgc
  have hM : ∀ {Q' : MethodId → Pre} {d' : Bool} {acts' : List Action}, wp (Jvm.resolveMethodAt index) Q' E e d' acts' ((s.setVm (s.vm.noted f.method.cls ci (.cls c))).setTop f) ↔ Q' m d' acts' ((s.setVm (s.vm.calledUp f.method.cls ci index c m)).setTop f) :=
    W.resolveMethodAt_links (t := (s.setVm (s.vm.noted f.method.cls ci (.cls c))).setTop f) (State.method?_setTop f hs₁) hgm
  simp [invokestatic.sem, hp, Seam.memberRefOf, State.method?_setTop f hs, State.method?_setTop f hs₂, hb₀, hb₂, hL, W.resolveClassAt_ready (s := (s.setVm (s.vm.calledUp f.method.cls ci index c m)).setTop f) (State.method?_setTop f hs₂) hE.classReady,
    hc₁, hc₂, hn₁, hn₂, hM, W.resolveMethodAt_ready (s := (s.setVm (s.vm.calledUp f.method.cls ci index c m)).setTop f) (State.method?_setTop f hs₂) hE.ready, -Array.any_eq_true]
end Z1
section Z2
variable {p : Program} {l : Launch} {e : Env} {R : Room} {s : State} {m : MethodId} {args : Array Value} {below : List Frame} {meth : Method} {c : Code} {T : State} {locs : List Loc} {cells slots : Nat}
theorem z_invokestaticUp (X : Stand p l e R s m args below meth c T locs cells slots) (hexec : p.tables.exec = Jvm.exec)
    {own owner : String} {index : Nat} {x : MethodName} (hown : s.vm.findClass own = some m.cls) (hlink : (Cond.methodLink own index x).before args s = true)
    (hsame : (Cond.sameMethod x.cls owner x.name x.desc).before args s = true) (howner : owner ≠ "java/lang/invoke/MethodHandle" ∧ owner ≠ "java/lang/invoke/VarHandle")
    {r0 : MethodId} {r : Method} (hn : s.methodNamed? ⟨owner, x.name, x.desc⟩ = some r0) (hrm : s.vm.method? r0 = some r) (hstatic : r.isStatic = true)
    {kr : Class} (hkr : s.vm.classes[r0.cls]? = some kr) (hinit : kr.init = .initialized)
    {g : JFrame} (hg : g.method = m) {argsL rest : List Value} (hlen : argsL.length = r.sig.parameters.length) (hstack : g.stack = argsL.reverse ++ rest)
    (hdg : decode c.code g.pc = .ok (.invokestatic index, 3)) :
    ∃ vm', Stand p l e R s m args below meth c (T.setVm vm') locs cells slots ∧
      ∀ target, (∀ acts, Steps p.tables e below (doInvoke e ((T.setVm vm').setTop { g with stack := rest }) acts r0 argsL.toArray).1 target) → Steps p.tables e below (T.setTop g) target := by
  have hpl : e.platform.magicAccessors = ({} : Platform).magicAccessors := by rw [X.admits.platform]
  have hpv : e.platform.polymorphicOnlyByInvokevirtual = true := by rw [X.admits.platform]
  obtain ⟨cn, ck, r1, hcn, hck, hni, hf, hn1⟩ := Cond.sameMethod_found hsame
  cases hn.symm.trans hn1
  obtain ⟨ci, hl, hright⟩ := Cond.methodLink_specUp hown hcn hck hni hf hlink e.platform hpl (by rw [X.admits.platform])
  have hE : s.MethodEntryUp e T.vm m.cls index cn r0 ci := State.methodEntryUp X.warmed hl hright
  obtain ⟨kr', hkr', hnr⟩ := className_of_methodNamed hn
  cases hkr.symm.trans hkr'
  obtain ⟨dk, cfile, nt, mname, mdesc, ck', mk', meth', hd, hcf, hcp, hnt, -, -, hck', -, hpoly, -⟩ := hl.here
  cases hck.symm.trans hck'
  have alike := hE.warmed.alike
  obtain ⟨dk₂, hdk₂, hed₂⟩ := alike.2.2 _ _ hd
  obtain ⟨kr₂, hkr₂, her⟩ := alike.2.2 _ _ hkr
  obtain ⟨ck₂, hck₂, hec⟩ := alike.2.2 _ _ hck
  have hnone : (ck.methods.any fun y => y.name == mname && !y.isStatic && signaturePolymorphic ck y) = false := by simp [hpoly]
  have hnone₂ : (ck₂.methods.any fun y => y.name == mname && !y.isStatic && signaturePolymorphic ck₂ y) = false := by rw [hec]; exact hnone
  refine ⟨T.vm.calledUp m.cls ci index cn r0, X.noted hE.warmed, fun target hrest => ?_⟩
  subst hg
  jvm_step X.here [hexec, hdg, z_statUp (e := e) (s := T) (s₀ := s) (f := g) X.here.top hpv X.warmed hE hd hcf hcp hnt hck hnone,
    invokestatic.wp_ready (e := e) (s := T.setVm (T.vm.calledUp g.method.cls ci index cn r0)) (k := kr₂) (meth := r) (m := r0) (args := argsL) (rest := rest) (f := g)
      X.here.top ⟨ci, mname, mdesc, false, cn, ck₂, memberRef_ask_via (e := e) hdk₂ (by rw [hed₂]; exact hcf) (by simpa using hcp) hnt, hE.classReady, hck₂, hnone₂⟩ hE.ready hkr₂
      (by show (T.vm.calledUp g.method.cls ci index cn r0).method? r0 = some r; rw [alike.method?]; exact hrm) (by rw [her]; show signaturePolymorphic kr r = false; simp [signaturePolymorphic, hnr, howner.1, howner.2]) hstatic (by rw [her]; exact hinit) hlen hstack]
  exact fun acts => hrest _
end Z2
/-- at a call: the callee is found, and the machine stands before its invocation -/
def zLk (g : zG) (M : zT) (pc len : Nat) (M' : zT) (as rest : List zV) (σ : zM) : Prop :=
  ∀ {p : Program} {e : Env} {R : Room} {s : State} {m : MethodId} {args : Array Value} {below : List Frame} {meth : Method} {c : Code} {T : State} {locs : List Loc} {cells slots : Nat} {lc : Array Slot},
    Stand p (zl g) e R s m args below meth c T locs cells slots → zgok g → (zs g).WarmedH s.vm → p.tables.exec = Jvm.exec → c.code = M.2.1 → s.vm.findClass M.1.cls = some m.cls → zHp g σ T.heap →
    ∃ (vm₁ : Vm) (mk : MethodId) (ins : Instr), decode c.code pc = .ok (ins, len) ∧ Stand p (zl g) e R s m args below meth c (T.setVm vm₁) locs cells slots ∧ (T.setVm vm₁).methodNamed? M'.1 = some mk ∧
      ∀ target, Steps p.tables e below (doInvoke e ((T.setVm vm₁).setTop (F0 m pc lc (rest.map (zval g)))) [] mk (as.map (zval g)).toArray).1 target → Steps p.tables e below (T.setTop (F0 m pc lc ((as.reverse ++ rest).map (zval g)))) target
/-- plain callees: names and signature -/
def zplain (M' : zT) (n : Nat) : Prop := (M'.1.cls ≠ "java/lang/invoke/MethodHandle" ∧ M'.1.cls ≠ "java/lang/invoke/VarHandle") ∧ (parseMethodDescriptor M'.1.desc).map (fun d => d.parameters.length) = some n
theorem zsig {M' : zT} {n : Nat} (h : zplain M' n) {s : State} (hc : (zcodeW M').before #[] s = true) : ∃ (mk : MethodId) (meth : Method), s.methodNamed? M'.1 = some mk ∧ s.vm.method? mk = some meth ∧ n = meth.sig.parameters.length := by
  have key : ∀ {meth : Method}, parseMethodDescriptor M'.1.desc = some meth.sig → n = meth.sig.parameters.length := fun hsig => by
    have := h.2
    rw [hsig] at this
    exact (Option.some.inj this).symm
  unfold zcodeW at hc
  split at hc
  · obtain ⟨mk, hn⟩ := Cond.code_named hc
    obtain ⟨methY, cY, q1, q2, -, q3, -, -, -, q4⟩ := Cond.code_spec hn hc
    exact ⟨mk, methY, hn, q1, key q4⟩
  · obtain ⟨m', methY, cY, q0, q1, q2, -, q3, -, -, -, q4⟩ := Cond.codeWith_spec hc
    exact ⟨m', methY, q0, q1, key q4⟩
section Z3
variable {g : zG} {M M' : zT} {pc : Nat} {σ : zM} {idx : Nat}
theorem zrev {as rest : List zV} {r : zV} : (((r :: as).reverse ++ rest).map (zval g)) = ((as.map (zval g)).reverse ++ zval g r :: rest.map (zval g)) := by simp
theorem zrev0 {as rest : List zV} : ((as.reverse ++ rest).map (zval g)) = ((as.map (zval g)).reverse ++ rest.map (zval g)) := by simp
/-- a receiver of a known class -/
theorem zrecv {H : Heap} {s : State} {ci : Nat} {r : vw_C} {a : Int} (hg : zgok g) (hW : (zs g).WarmedH s.vm) (hH : zHp g σ H) (hc : zcl[ci]? = some r) (ha : 0 ≤ a) (hk : (zK σ a.toNat).1 = ci + 1) :
    ∃ (cell : Cell) (kC : Class), H[a.toNat]? = some cell ∧ cell.vm.isStatics = false ∧ s.vm.findClass r.1 = some cell.cls ∧ s.vm.classes[cell.cls]? = some kC := by
  have hci : ci ≤ 22 := by
    have := (List.getElem?_eq_some_iff.mp hc).1
    have e : zcl.length = 23 := rfl
    omega
  obtain ⟨hb, h⟩ := hH.2.2.2 a.toNat (by omega)
  unfold zcell at h
  rw [if_pos (by omega), hk, Nat.add_sub_cancel] at h
  obtain ⟨r', e1, ⟨cell, q1, q2, q3, -⟩, -⟩ := h
  cases hc.symm.trans e1
  obtain ⟨-, hfc, kC, hkC, -⟩ := (zva hg hW).1 ci _ hc
  exact ⟨cell, kC, q1, by rw [q3]; rfl, by rw [q2]; exact hfc, by rw [q2]; exact hkC⟩
theorem zLk_V {ci n : Nat} {r : vw_C} {a : Int} {as rest : List zV} (hp : zplain M' n) (hn : as.length = n) (hc : zcl[ci]? = some r) (ha : 0 ≤ a) (hk : (zK σ a.toNat).1 = ci + 1) (hd : decode M.2.1 pc = .ok (.invokevirtual idx, 3))
    (q1 : Cond.methodLink M.1.cls idx M'.1 ∈ lw_all) (q2 : Cond.instanceMethod M'.1 ∈ lw_all) (q3 : Cond.selects r.1 M'.1 M'.1 ∈ lw_all) (q4 : zcodeW M' ∈ lw_all) : zLk g M pc 3 M' (zr a :: as) rest σ := by
  intro p e R s m args below meth c T locs cells slots lc X hg hW hx hb hown hH
  obtain ⟨mk, methM, hnamed, hmethM, hstM, habM⟩ := Cond.instanceMethod_spec (zw hg q2 hW args)
  obtain ⟨mk', methM', hnamed', hmethM', hnum⟩ := zsig hp (zw hg q4 hW #[])
  cases hnamed.symm.trans hnamed'
  cases hmethM.symm.trans hmethM'
  obtain ⟨cellB, kC, hcell, hobj, hcls, hkC⟩ := zrecv hg hW hH hc ha hk
  obtain ⟨c2, r2, m2, w1, w2, w3, w4, kP, hkP, hkPi⟩ := Cond.selects_spec (zw hg q3 hW args)
  cases hcls.symm.trans w1
  cases (State.methodFound?_of_named hnamed hp.1).symm.trans w2
  cases hnamed.symm.trans w3
  have hselP : selectMethod e.platform s.vm cellB.cls mk = .method mk := by rw [Launch.admits_selectMethod X.admits]; exact w4
  obtain ⟨vm₁, X₁, hstep₁⟩ := X.invokevirtual hx hown (zw hg q1 hW args) hnamed hmethM hstM hkP hkPi hp.1 (a := a.toNat) (cell := cellB) hcell
    (fun z h => by rw [h] at hobj; cases hobj) hselP hmethM habM hkP hkPi (g := F0 m pc lc (((zr a :: as).reverse ++ rest).map (zval g))) rfl (argsL := as.map (zval g)) (rest := rest.map (zval g)) (by rw [List.length_map, hn]; exact hnum) (by show _ = _; rw [zrev, zval_r, zref_at g ha]) (by rw [hb]; exact hd)
  refine ⟨vm₁, mk, _, by rw [hb]; exact hd, X₁, X₁.named hnamed, fun target h => hstep₁ _ fun acts => ?_⟩
  rw [doInvoke_state]
  simpa only [List.map_cons, zval_r, zref_at g ha] using h
theorem zLk_VN {ci n : Nat} {host : String} {r : vw_C} {a : Int} {as rest : List zV} (hp : zplain M' n) (hn : as.length = n) (hc : zcl[ci]? = some r) (ha : 0 ≤ a) (hk : (zK σ a.toNat).1 = ci + 1) (hd : decode M.2.1 pc = .ok (.invokevirtual idx, 3))
    (q1 : Cond.methodLinkNest M.1.cls idx M'.1 host ∈ lw_tbl) (q2 : Cond.instanceMethod M'.1 ∈ lw_all) (q3 : Cond.selects r.1 M'.1 M'.1 ∈ lw_all) (q4 : zcodeW M' ∈ lw_all) : zLk g M pc 3 M' (zr a :: as) rest σ := by
  intro p e R s m args below meth c T locs cells slots lc X hg hW hx hb hown hH
  obtain ⟨mk, methM, hnamed, hmethM, hstM, habM⟩ := Cond.instanceMethod_spec (zw hg q2 hW args)
  obtain ⟨mk', methM', hnamed', hmethM', hnum⟩ := zsig hp (zw hg q4 hW #[])
  cases hnamed.symm.trans hnamed'
  cases hmethM.symm.trans hmethM'
  obtain ⟨cellB, kC, hcell, hobj, hcls, hkC⟩ := zrecv hg hW hH hc ha hk
  obtain ⟨c2, r2, m2, w1, w2, w3, w4, kP, hkP, hkPi⟩ := Cond.selects_spec (zw hg q3 hW args)
  cases hcls.symm.trans w1
  cases (State.methodFound?_of_named hnamed hp.1).symm.trans w2
  cases hnamed.symm.trans w3
  have hselP : selectMethod e.platform s.vm cellB.cls mk = .method mk := by rw [Launch.admits_selectMethod X.admits]; exact w4
  obtain ⟨vm₁, X₁, hstep₁⟩ := X.invokevirtualNest hx hown (zwM hg q1 hW args) hnamed hmethM hstM hkP hkPi hp.1 (a := a.toNat) (cell := cellB) hcell
    (fun z h => by rw [h] at hobj; cases hobj) hselP hmethM habM hkP hkPi (g := F0 m pc lc (((zr a :: as).reverse ++ rest).map (zval g))) rfl (argsL := as.map (zval g)) (rest := rest.map (zval g)) (by rw [List.length_map, hn]; exact hnum) (by show _ = _; rw [zrev, zval_r, zref_at g ha]) (by rw [hb]; exact hd)
  refine ⟨vm₁, mk, _, by rw [hb]; exact hd, X₁, X₁.named hnamed, fun target h => hstep₁ _ fun acts => ?_⟩
  rw [doInvoke_state]
  simpa only [List.map_cons, zval_r, zref_at g ha] using h
theorem zLk_VU {ci n : Nat} {x : MethodName} {r : vw_C} {a : Int} {as rest : List zV} (hp : zplain M' n) (hxm : x.name = M'.1.name ∧ x.desc = M'.1.desc) (hn : as.length = n) (hc : zcl[ci]? = some r) (ha : 0 ≤ a) (hk : (zK σ a.toNat).1 = ci + 1) (hd : decode M.2.1 pc = .ok (.invokevirtual idx, 3))
    (q1 : Cond.methodLink M.1.cls idx x ∈ lw_all) (q0 : Cond.sameMethod x.cls M'.1.cls x.name x.desc ∈ lw_all) (q2 : Cond.instanceMethod M'.1 ∈ lw_all) (q3 : Cond.selects r.1 x M'.1 ∈ lw_all) (q4 : zcodeW M' ∈ lw_all) : zLk g M pc 3 M' (zr a :: as) rest σ := by
  intro p e R s m args below meth c T locs cells slots lc X hg hW hx hb hown hH
  obtain ⟨mk, methM, hnamed, hmethM, hstM, habM⟩ := Cond.instanceMethod_spec (zw hg q2 hW args)
  obtain ⟨mk', methM', hnamed', hmethM', hnum⟩ := zsig hp (zw hg q4 hW #[])
  cases hnamed.symm.trans hnamed'
  cases hmethM.symm.trans hmethM'
  obtain ⟨cn, ck, r1, hcn, hck, hni, hf, hn1⟩ := Cond.sameMethod_found (zw hg q0 hW args)
  have hname : (⟨M'.1.cls, x.name, x.desc⟩ : MethodName) = M'.1 := by rw [hxm.1, hxm.2]
  have hn1' := hn1
  rw [hname] at hn1'
  cases hnamed.symm.trans hn1'
  obtain ⟨cellB, kC, hcell, hobj, hcls, hkC⟩ := zrecv hg hW hH hc ha hk
  obtain ⟨c2, r2, m2, w1, w2, w3, w4, kP, hkP, hkPi⟩ := Cond.selects_spec (zw hg q3 hW args)
  cases hcls.symm.trans w1
  cases hf.symm.trans w2
  cases hnamed.symm.trans w3
  have hselP : selectMethod e.platform s.vm cellB.cls mk = .method mk := by rw [Launch.admits_selectMethod X.admits]; exact w4
  obtain ⟨vm₁, X₁, hstep₁⟩ := X.invokevirtualUp hx hown (zw hg q1 hW args) (zw hg q0 hW args) hp.1 hn1 hmethM hstM (a := a.toNat) (cell := cellB) hcell
    (fun z h => by rw [h] at hobj; cases hobj) hselP hmethM habM hkP hkPi (g := F0 m pc lc (((zr a :: as).reverse ++ rest).map (zval g))) rfl (argsL := as.map (zval g)) (rest := rest.map (zval g)) (by rw [List.length_map, hn]; exact hnum) (by show _ = _; rw [zrev, zval_r, zref_at g ha]) (by rw [hb]; exact hd)
  refine ⟨vm₁, mk, _, by rw [hb]; exact hd, X₁, X₁.named hnamed, fun target h => hstep₁ _ fun acts => ?_⟩
  rw [doInvoke_state]
  simpa only [List.map_cons, zval_r, zref_at g ha] using h
theorem zLk_S {n : Nat} {as rest : List zV} (hp : zplain M' n) (hn : as.length = n) (hd : decode M.2.1 pc = .ok (.invokestatic idx, 3))
    (q1 : Cond.methodLink M.1.cls idx M'.1 ∈ lw_all) (q2 : Cond.static M'.1 ∈ lw_all) (q3 : Cond.initialized M'.1.cls ∈ lw_all) (q4 : zcodeW M' ∈ lw_all) : zLk g M pc 3 M' as rest σ := by
  intro p e R s m args below meth c T locs cells slots lc X hg hW hx hb hown hH
  obtain ⟨mk, methM, hnamed, hmethM, hnum⟩ := zsig hp (zw hg q4 hW #[])
  have hstatic : methM.isStatic = true := Cond.static_spec hnamed hmethM (zw hg q2 hW args)
  obtain ⟨kP, hkP, -⟩ := className_of_methodNamed hnamed
  have hinitP : kP.init = .initialized := Cond.initialized_spec (findClass_of_methodNamed hnamed) hkP (zw hg q3 hW args)
  obtain ⟨vm₁, X₁, hstep₁⟩ := X.invokestatic hx hown (zw hg q1 hW args) hnamed hmethM hstatic hkP hinitP hp.1 (g := F0 m pc lc ((as.reverse ++ rest).map (zval g))) rfl (argsL := as.map (zval g)) (rest := rest.map (zval g)) (by rw [List.length_map, hn]; exact hnum) (by show _ = _; rw [zrev0]) (by rw [hb]; exact hd)
  refine ⟨vm₁, mk, _, by rw [hb]; exact hd, X₁, X₁.named hnamed, fun target h => hstep₁ _ fun acts => ?_⟩
  rw [doInvoke_state]
  exact h
theorem zLk_SU {n : Nat} {x : MethodName} {as rest : List zV} (hp : zplain M' n) (hxm : x.name = M'.1.name ∧ x.desc = M'.1.desc) (hn : as.length = n) (hd : decode M.2.1 pc = .ok (.invokestatic idx, 3))
    (q1 : Cond.methodLink M.1.cls idx x ∈ lw_all) (q0 : Cond.sameMethod x.cls M'.1.cls x.name x.desc ∈ lw_all) (q2 : Cond.static M'.1 ∈ lw_all) (q3 : Cond.initialized M'.1.cls ∈ lw_all) (q4 : zcodeW M' ∈ lw_all) : zLk g M pc 3 M' as rest σ := by
  intro p e R s m args below meth c T locs cells slots lc X hg hW hx hb hown hH
  obtain ⟨mk, methM, hnamed, hmethM, hnum⟩ := zsig hp (zw hg q4 hW #[])
  have hstatic : methM.isStatic = true := Cond.static_spec hnamed hmethM (zw hg q2 hW args)
  obtain ⟨kP, hkP, -⟩ := className_of_methodNamed hnamed
  have hinitP : kP.init = .initialized := Cond.initialized_spec (findClass_of_methodNamed hnamed) hkP (zw hg q3 hW args)
  have hname : (⟨M'.1.cls, x.name, x.desc⟩ : MethodName) = M'.1 := by rw [hxm.1, hxm.2]
  obtain ⟨vm₁, X₁, hstep₁⟩ := z_invokestaticUp X hx hown (zw hg q1 hW args) (zw hg q0 hW args) hp.1 (by rw [hname]; exact hnamed) hmethM hstatic hkP hinitP (g := F0 m pc lc ((as.reverse ++ rest).map (zval g))) rfl (argsL := as.map (zval g)) (rest := rest.map (zval g)) (by rw [List.length_map, hn]; exact hnum) (by show _ = _; rw [zrev0]) (by rw [hb]; exact hd)
  refine ⟨vm₁, mk, _, by rw [hb]; exact hd, X₁, X₁.named hnamed, fun target h => hstep₁ _ fun acts => ?_⟩
  rw [doInvoke_state]
  exact h
theorem zLk_I {n : Nat} {a : Int} {as rest : List zV} (hp : zplain M' n) (hn : as.length = n) (ha : 0 ≤ a) (hi : M'.1.name = "<init>") (hM : M'.2.2.2 = (none, [])) (hd : decode M.2.1 pc = .ok (.invokespecial idx, 3))
    (q1 : Cond.methodLink M.1.cls idx M'.1 ∈ lw_all) (q2 : Cond.instanceMethod M'.1 ∈ lw_all) (q4 : zcodeW M' ∈ lw_all) : zLk g M pc 3 M' (zr a :: as) rest σ := by
  intro p e R s m args below meth c T locs cells slots lc X hg hW hx hb hown hH
  have hpl : e.platform.magicAccessors = ({} : Platform).magicAccessors := by rw [X.admits.platform]
  obtain ⟨mk0, methM0, hnamed0, hmethM0, hnum⟩ := zsig hp (zw hg q4 hW #[])
  have hcode : (Cond.code M'.1 M'.2.1 M'.2.2.1 none).before args s = true := by
    have := zw hg q4 hW args
    unfold zcodeW at this
    rw [hM] at this
    exact this
  obtain ⟨mk, methM, cM, kP, vm₁, hnamed, hmethM, hcodeM, -, hlocalsM, -, hkP, -, hW₁, hstep₁⟩ := Steps.initColdArgs (e := e) X.here hx X.warmed hpl hown hi hp.1 (zw hg q1 hW args) (zw hg q2 hW args) hcode (f := F0 m pc lc (((zr a :: as).reverse ++ rest).map (zval g))) rfl
    (fun sig h => by have := hp.2; rw [h] at this; rw [List.length_map, hn]; exact (Option.some.inj this).symm) (argsL := as.map (zval g)) (a := a.toNat) (rest := rest.map (zval g)) (by show _ = _; rw [zrev, zval_r, zref_at g ha]) (by rw [hb]; exact hd)
  have X₁ := X.noted hW₁
  refine ⟨vm₁, mk, _, by rw [hb]; exact hd, X₁, X₁.named hnamed, fun target h => hstep₁ _ fun acts => ?_⟩
  rw [doInvoke_state]
  simpa only [List.map_cons, zval_r, zref_at g ha] using h
theorem zLk_IN {n : Nat} {host : String} {a : Int} {as rest : List zV} (hp : zplain M' n) (hn : as.length = n) (ha : 0 ≤ a) (hi : M'.1.name = "<init>") (hM : M'.2.2.2 = (none, [])) (hd : decode M.2.1 pc = .ok (.invokespecial idx, 3))
    (q1 : Cond.methodLinkNest M.1.cls idx M'.1 host ∈ lw_tbl) (q2 : Cond.instanceMethod M'.1 ∈ lw_all) (q4 : zcodeW M' ∈ lw_all) : zLk g M pc 3 M' (zr a :: as) rest σ := by
  intro p e R s m args below meth c T locs cells slots lc X hg hW hx hb hown hH
  have hpl : e.platform.magicAccessors = ({} : Platform).magicAccessors := by rw [X.admits.platform]
  obtain ⟨mk0, methM0, hnamed0, hmethM0, hnum⟩ := zsig hp (zw hg q4 hW #[])
  have hcode : (Cond.code M'.1 M'.2.1 M'.2.2.1 none).before args s = true := by
    have := zw hg q4 hW args
    unfold zcodeW at this
    rw [hM] at this
    exact this
  obtain ⟨mk, methM, cM, kP, vm₁, hnamed, hmethM, hcodeM, -, hlocalsM, -, hkP, -, hW₁, hstep₁⟩ := Steps.initColdArgsNest (e := e) X.here hx X.warmed hpl hown hi hp.1 (zwM hg q1 hW args) (zw hg q2 hW args) hcode (f := F0 m pc lc (((zr a :: as).reverse ++ rest).map (zval g))) rfl
    (fun sig h => by have := hp.2; rw [h] at this; rw [List.length_map, hn]; exact (Option.some.inj this).symm) (argsL := as.map (zval g)) (a := a.toNat) (rest := rest.map (zval g)) (by show _ = _; rw [zrev, zval_r, zref_at g ha]) (by rw [hb]; exact hd)
  have X₁ := X.noted hW₁
  refine ⟨vm₁, mk, _, by rw [hb]; exact hd, X₁, X₁.named hnamed, fun target h => hstep₁ _ fun acts => ?_⟩
  rw [doInvoke_state]
  simpa only [List.map_cons, zval_r, zref_at g ha] using h
end Z3

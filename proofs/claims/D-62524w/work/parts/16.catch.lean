set_option maxRecDepth 100000
section Z7
variable {e : Env} {s u : State} {f : JFrame} {a : Addr} {own : String} {args : Array Value}
/-- an entry of a table of handlers that lets the exception pass -/
def zpass (own : String) (args : Array Value) (s : State) (pc : Nat) (cX : ClassId) (y : ExceptionTableEntry) : Prop :=
  covers y pc = false ∨ (covers y pc = true ∧ y.catchType ≠ 0 ∧ ∃ (name : String) (c : ClassId), (Cond.classLink own y.catchType name).before args s = true ∧ s.vm.findClass name = some c ∧ s.vm.assignable cX c = false)
/-- one entry that covers the place: the class it names is resolved, cold or warm, and the exception is held against it -/
theorem z_go1 {x : ExceptionTableEntry} {cT : ClassId} {cell : Cell} {kX kT : Class} (hx : covers x f.pc = true) (h0 : x.catchType ≠ 0) (hl : u.vm.ClassLinks e.platform f.method.cls x.catchType cT)
    (hcell : u.heap[a]? = some cell) (hobj : ∀ k, cell.vm ≠ .statics k) (hk1 : u.vm.classes[cell.cls]? = some kX) (hk2 : u.vm.classes[cT]? = some kT) (t : List ExceptionTableEntry) (Q : Handler → Pre) (E : CtlPost) (d : Bool) (acts : List Action) :
    wp (findHandler.go f a (x :: t)) Q E e d acts u ↔ if u.vm.assignable cell.cls cT = true then Q (.found x.handlerPc) d acts (u.setVm (u.vm.noted f.method.cls x.catchType (.cls cT))) else wp (findHandler.go f a t) Q E e d acts (u.setVm (u.vm.noted f.method.cls x.catchType (.cls cT))) := by
  have hx' : (decide (x.startPc ≤ f.pc) && decide (f.pc < x.endPc)) = true := hx
  obtain ⟨ha, ht⟩ := (resolveClass_links e.toSetting hl).op (op := VmOp.resolveClass f.method.cls x.catchType) rfl
  have hal : u.vm.Alike (u.vm.noted f.method.cls x.catchType (.cls cT)) := (Vm.Alike.refl u.vm).noted _ _ _
  obtain ⟨k1', hk1', -⟩ := hal.2.2 _ _ hk1
  obtain ⟨k2', hk2', -⟩ := hal.2.2 _ _ hk2
  have hfit : (u.vm.noted f.method.cls x.catchType (.cls cT)).assignable cell.cls cT = u.vm.assignable cell.cls cT := hal.assignable _ _
  cases hq : u.vm.assignable cell.cls cT <;> rw [hq] at hfit <;> simp [findHandler.go, hx', h0, ha, ht, hcell, hobj, hk1', hk2', hfit, VmOp.dirties, VmOp.acts]
theorem z_find {m : MethodId} (hm : f.method = m) (hpl : e.platform.magicAccessors = ({} : Platform).magicAccessors) (hown : s.vm.findClass own = some m.cls) {cell : Cell} (hobj : ∀ k, cell.vm ≠ .statics k) {kX : Class} (hkX : s.vm.classes[cell.cls]? = some kX)
    {x : ExceptionTableEntry} {rest : List ExceptionTableEntry} (hx : covers x f.pc = true) (h0 : x.catchType ≠ 0) {nm : String} {cT : ClassId} (hlx : (Cond.classLink own x.catchType nm).before args s = true) (hcT : s.vm.findClass nm = some cT) (hfit : s.vm.assignable cell.cls cT = true) :
    ∀ (pre : List ExceptionTableEntry) (u : State), s.WarmedH u.vm → u.heap[a]? = some cell → (∀ y ∈ pre, zpass own args s f.pc cell.cls y) →
      ∃ vm', s.WarmedH vm' ∧ ∀ (Q : Handler → Pre) (E : CtlPost) (d : Bool) (acts : List Action), wp (findHandler.go f a (pre ++ x :: rest)) Q E e d acts u ↔ Q (.found x.handlerPc) d acts (u.setVm vm') := by
  have links : ∀ {idx : Nat} {name : String} {c : ClassId} (u : State), s.WarmedH u.vm → (Cond.classLink own idx name).before args s = true → s.vm.findClass name = some c →
      u.vm.ClassLinks e.platform m.cls idx c ∧ s.WarmedH (u.vm.noted m.cls idx (.cls c)) ∧ ∃ kT, u.vm.classes[c]? = some kT := by
    intro idx name c u hW hl hc
    obtain ⟨c', hc', hcl⟩ := Cond.classLink_spec hown hl e.platform hpl
    cases hc.symm.trans hc'
    obtain ⟨dk, _, _, kt, hd, _, _, _, _, hkt, _, hopen⟩ := hcl.here
    obtain ⟨kt', hkt', -⟩ := hW.alike.2.2 _ _ hkt
    exact ⟨hW.classLinks hcl, hW.noted hd hopen (State.rightAt_cls hcl), kt', hkt'⟩
  intro pre
  induction pre with
  | nil =>
    intro u hW hcell _
    obtain ⟨hcl, hW', kT, hkT⟩ := links u hW hlx hcT
    obtain ⟨kX', hkX', -⟩ := hW.alike.2.2 _ _ hkX
    have hf' : u.vm.assignable cell.cls cT = true := by rw [hW.alike.assignable]; exact hfit
    refine ⟨_, hW', fun Q E d acts => ?_⟩
    rw [List.nil_append, z_go1 hx h0 (by rw [hm]; exact hcl) hcell hobj hkX' hkT, if_pos hf', hm]
  | cons y ys ih =>
    intro u hW hcell hp
    rcases hp y List.mem_cons_self with hy | ⟨hy, hy0, name, c, hl, hc, hno⟩
    · obtain ⟨vm', hW', h⟩ := ih u hW hcell (fun z hz => hp z (List.mem_cons_of_mem _ hz))
      refine ⟨vm', hW', fun Q E d acts => ?_⟩
      rw [List.cons_append, W.findHandler_go_skip hy]
      exact h Q E d acts
    · obtain ⟨hcl, hW', kT, hkT⟩ := links u hW hl hc
      obtain ⟨kX', hkX', -⟩ := hW.alike.2.2 _ _ hkX
      have hf' : ¬ u.vm.assignable cell.cls c = true := by rw [hW.alike.assignable, hno]; decide
      obtain ⟨vm', hW2, h⟩ := ih (u.setVm (u.vm.noted m.cls y.catchType (.cls c))) hW' hcell (fun z hz => hp z (List.mem_cons_of_mem _ hz))
      refine ⟨vm', hW2, fun Q E d acts => ?_⟩
      rw [List.cons_append, z_go1 hy hy0 (by rw [hm]; exact hcl) hcell hobj hkX' hkT, if_neg hf', hm]
      exact h Q E d acts
end Z7
section Z8
variable {p : Program} {l : Launch} {e : Env} {R : Room} {s : State} {m : MethodId} {args : Array Value} {below : List Frame} {meth : Method} {c : Code} {T : State} {locs : List Loc} {cells slots : Nat}
/-- the exception is caught here -/
theorem z_caught (X : Stand p l e R s m args below meth c T locs cells slots) {own : String} (hown : s.vm.findClass own = some m.cls) {a : Addr} {g : JFrame} (hg : g.method = m) {cell : Cell} (hcell : T.heap[a]? = some cell) (hobj : cell.vm.isStatics = false) {kX : Class} (hkX : s.vm.classes[cell.cls]? = some kX)
    (pre rest : List ExceptionTableEntry) (x : ExceptionTableEntry) (hsplit : c.exceptionTable.toList = pre ++ x :: rest) (hpass : ∀ y ∈ pre, zpass own args s g.pc cell.cls y) (hx : covers x g.pc = true) (h0 : x.catchType ≠ 0) {nm : String} {cT : ClassId} (hlx : (Cond.classLink own x.catchType nm).before args s = true) (hcT : s.vm.findClass nm = some cT) (hfit : s.vm.assignable cell.cls cT = true) :
    ∃ vm', Stand p l e R s m args below meth c (T.setVm vm') locs cells slots ∧
      ∀ target, Steps p.tables e below ((T.setVm vm').setTop { g with pc := x.handlerPc, stack := [.ref a] }) target → Steps p.tables e below ((T.setTop g).pushFrame (.throwing a)) target := by
  have hpl : e.platform.magicAccessors = ({} : Platform).magicAccessors := by rw [X.admits.platform]
  have hob : ∀ k, cell.vm ≠ .statics k := fun k h => by rw [h] at hobj; cases hobj
  obtain ⟨vm', hW', hfind⟩ := z_find (e := e) (f := g) (a := a) (args := args) (rest := rest) hg hpl hown hob hkX hx h0 hlx hcT hfit pre ((T.setTop g).pushFrame (.throwing a)) (by rw [throwing_vm]; exact X.warmed) (by rw [throwing_heap]; exact hcell) hpass
  refine ⟨vm', X.noted hW', fun target hrest => ?_⟩
  have h : At T g.method c below := by rw [hg]; exact X.here
  obtain ⟨hgo, hw⟩ := h.throwing a
  refine Steps.head hgo hw ?_
  rw [stepThread_throwing (frames_entered h.top _)]
  have hF : ∀ (Q : Handler → Pre) (E : CtlPost) (d : Bool) (acts : List Action), wp (findHandler g a) Q E e d acts ((T.setTop g).pushFrame (.throwing a)) ↔ Q (.found x.handlerPc) d acts (((T.setTop g).pushFrame (.throwing a)).setVm vm') := by
    intro Q E d acts
    rw [W.findHandler_eq (meth := meth) (code := c) (by rw [throwing_vm, hg]; exact X.method') X.code, hsplit]
    exact hfind Q E d acts
  have hIs : (stepThrowing e ((T.setTop g).pushFrame (.throwing a)) a (.java g :: T.frames.tail)).1 = (((T.setTop g).pushFrame (.throwing a)).setVm vm').setFrames (.java { g with pc := x.handlerPc, stack := [.ref a] } :: T.frames.tail) := by
    simp only [stepThrowing, searchFrame, vmDo]
    generalize hr : Sem.go _ e false [] ((T.setTop g).pushFrame (.throwing a)) = res
    obtain ⟨as, rfl, ha⟩ := Sem.eq_ok_of hr (a := Handler.found x.handlerPc) (s' := ((T.setTop g).pushFrame (.throwing a)).setVm vm') (acts' := []) (by simp [hF])
    rfl
  rw [hIs]
  obtain ⟨g₀, hg0⟩ := Option.isSome_iff_exists.mp h.top
  obtain ⟨r, hr⟩ := State.topJava?_eq_some.mp hg0
  have hr' : (T.setVm vm').frames = .java g₀ :: r := hr
  rw [State.setTop_of_frames _ hr'] at hrest
  have e1 : (((T.setTop g).pushFrame (.throwing a)).setVm vm').setFrames (.java { g with pc := x.handlerPc, stack := [.ref a] } :: T.frames.tail) = (T.setVm vm').setFrames (.java { g with pc := x.handlerPc, stack := [.ref a] } :: r) := by
    rw [hr, List.tail_cons, State.pushFrame, State.setTop_of_frames _ hr]
    have h1 : ∀ (F : List Frame) (w : State), (w.setFrames F).setVm vm' = (w.setVm vm').setFrames F := fun _ _ => rfl
    rw [h1, h1, State.setFrames_setFrames, State.setFrames_setFrames]
  rw [e1]
  exact hrest
end Z8

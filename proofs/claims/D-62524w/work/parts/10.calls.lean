set_option maxRecDepth 100000
section R7
variable {g : zG} {M M' : zT} {lv pc : Nat} {ls : List (Nat × zV)} {st : List zV} {σ : zM} {out : zO}
/-- a callee comes back or throws: the frame's state behind it -/
theorem zcall {p : Program} {e : Env} {s : State} {m : MethodId} {args : Array Value} {below : List Frame} {meth : Method} {c : Code} {U : State} {locs : List Loc} {σs : zM} {as : List zV} {o' : zO} {f : JFrame} {ins : Instr} {len : Nat} {mk : MethodId}
    (hC : Cj g lv M' as σ o') (hg : zgok g) (hok : ∀ v ∈ as, zok g v) (X : Stand p (zl g) e (zroom g (lv + 1) σs) s m args below meth c U locs (zN σ - zN σs) (zU σ - zU σs)) (hW : (zs g).WarmedH s.vm) (hH : zHp g σ U.heap) (h5 : zN σs ≤ zN σ) (h6 : zU σs ≤ zU σ) (h7 : zN σ ≤ zB g + 600384) (h8 : zU σ ≤ 7287785)
    (hcode : zcodeW M' ∈ lw_all) (hini : Cond.initialized M'.1.cls ∈ lw_all) (hf : f.method = m) (hsize : f.locals.size = c.maxLocals) (hd : decode c.code f.pc = .ok (ins, len)) (hmon : f.monitorRoom = 0) (hw : (f.stack.map fun v => v.category).sum + M'.2.2.1 ≤ 35) (hn : U.methodNamed? M'.1 = some mk) :
    ∃ (o : Outcome) (U' : State) (L : List Loc), zout g o' o ∧ zHp g o'.2.2 U'.heap ∧ zN σs ≤ zN o'.2.2 ∧ zU σs ≤ zU o'.2.2 ∧ (zN o'.2.2 ≤ zB g + 600384 ∧ zU o'.2.2 ≤ 7287785) ∧ (∀ q ∈ L, zB g ≤ q.base) ∧ Stand p (zl g) e (zroom g (lv + 1) σs) s m args below meth c U' (locs ++ L) (zN o'.2.2 - zN σs) (zU o'.2.2 - zU σs) ∧
      (∀ v, o = .returned v → Steps p.tables e below (doInvoke e (U.setTop f) [] mk (as.map (zval g)).toArray).1 (U'.setTop { f with pc := f.pc + len, stack := v.toList ++ f.stack })) ∧
      (∀ a, o = .threw a → Steps p.tables e below (doInvoke e (U.setTop f) [] mk (as.map (zval g)).toArray).1 ((U'.setTop f).pushFrame (.throwing a))) := by
  have hWU : (zs g).WarmedH U.vm := State.WarmedH.trans hW X.warmed
  have hcw : (zcodeW M').before #[] U = true := zw hg hcode hWU #[]
  obtain ⟨methY, cY, hmY, hcY, hlY⟩ : ∃ methY cY, U.vm.method? mk = some methY ∧ methY.code = some cY ∧ cY.maxLocals = M'.2.2.1 := by
    unfold zcodeW at hcw
    split at hcw
    · obtain ⟨methY, cY, q1, q2, -, q3, -⟩ := Cond.code_spec hn hcw
      exact ⟨methY, cY, q1, q2, q3⟩
    · obtain ⟨m', methY, cY, q0, q1, q2, -, q3, -⟩ := Cond.codeWith_spec hcw
      cases hn.symm.trans q0
      exact ⟨methY, cY, q1, q2, q3⟩
  obtain ⟨kY, hkY, -⟩ := className_of_methodNamed hn
  have hinitY : kY.init = .initialized := Cond.initialized_spec (findClass_of_methodNamed hn) hkY (zw hg hini hWU #[])
  have h : At U f.method c below := by rw [hf]; exact X.here
  have happ : (headSpec [zcodeW M'] (zroom g lv σ)).appliesLoose M'.1 e.platform (U.calling f mk (as.map (zval g)).toArray) = true := by
    refine Spec.appliesLoose_calling (g := f) h hd hn hkY hinitY (X.room_calling (g := f) (R' := zroom g lv σ) hsize hmY hcY ?_ ?_ ?_ ?_) ?_
    · show lv + 1 ≤ lv + 1; omega
    · show 2 * f.monitorRoom + _ + (cY.maxLocals + 11) + (46 * lv + 192) ≤ 46 * (lv + 1) + 192
      rw [hmon, hlY]; omega
    · show zN σ - zN σs + (zB g + 600384 - zN σ) ≤ zB g + 600384 - zN σs; omega
    · show zU σ - zU σs + (7287785 - zU σ) ≤ 7287785 - zU σs; omega
    · exact atoms_intro fun w hw => by
        simp only [List.mem_cons, List.not_mem_nil, or_false] at hw
        rw [hw]; exact zw hg hcode hWU _
  obtain ⟨mid, hmid⟩ := h.above
  have hfr : (U.setTop f).frames = (.java f :: mid) ++ below := by rw [State.frames_setTop' f h.top, hmid]; rfl
  obtain ⟨o, s₂, hsteps, -, hend, hq⟩ := Steps.callFree (hC hg hok) p X.admits X.cas X.clock (acts := []) hfr happ ⟨rfl, hWU, hH, h7, h8⟩ trivial
  rw [State.frames_setTop' f h.top] at hend
  obtain ⟨hzo, hzH, hW₂, hz1, hz2, hz3, L, hfe, hL⟩ := hq
  obtain ⟨e2, q2, q3, q4, q5, q6⟩ := id hfe
  have e3 : s₂ = ({ (U.calling f mk (as.map (zval g)).toArray).setFrames s₂.frames with heap := s₂.heap, slotsUsed := s₂.slotsUsed } : State).setVm s₂.vm := by
    have : s₂ = ({ s₂ with vm := (U.calling f mk (as.map (zval g)).toArray).vm } : State).setVm s₂.vm := rfl
    rw [this]
    exact congrArg (fun z => State.setVm z s₂.vm) e2
  have hW' : U.WarmedH s₂.vm := hW₂
  obtain ⟨g₀, hg0⟩ := Option.isSome_iff_exists.mp h.top
  obtain ⟨r, hr⟩ := State.topJava?_eq_some.mp hg0
  have hsame : U.sameButNew ({ U with heap := s₂.heap, slotsUsed := s₂.slotsUsed } : State) L (zN o'.2.2 - zN σ) (zU o'.2.2 - zU σ) := by
    refine ⟨?_, q2, q3, q4, q5, q6⟩
    obtain ⟨t, ht, -⟩ := State.frames_cons hr
    show ({ U with heap := s₂.heap, slotsUsed := s₂.slotsUsed } : State) = { U.setFrames U.frames with heap := s₂.heap, slotsUsed := s₂.slotsUsed }
    rw [State.setFrames_self ht]
  have hS : Stand p (zl g) e (zroom g (lv + 1) σs) s m args below meth c (({ U with heap := s₂.heap, slotsUsed := s₂.slotsUsed } : State).setVm s₂.vm) (locs ++ L) (zN σ - zN σs + (zN o'.2.2 - zN σ)) (zU σ - zU σs + (zU o'.2.2 - zU σ)) :=
    ⟨X.admits, X.cas, X.clock, X.frames, X.room, X.hears, X.method, X.code, (X.here.setHeapUsed s₂.heap s₂.slotsUsed).setVm hW'.alike, X.tail, State.WarmedH.trans X.warmed hW', X.limits, X.bytes, X.same.trans (hsame.setVm s.vm)⟩
  rw [show zN σ - zN σs + (zN o'.2.2 - zN σ) = zN o'.2.2 - zN σs by omega, show zU σ - zU σs + (zU o'.2.2 - zU σ) = zU o'.2.2 - zU σs by omega] at hS
  have hr' : (({ U with heap := s₂.heap, slotsUsed := s₂.slotsUsed } : State).setVm s₂.vm).frames = .java g₀ :: r := hr
  refine ⟨o, (({ U with heap := s₂.heap, slotsUsed := s₂.slotsUsed } : State).setVm s₂.vm), L, hzo, hzH, by omega, by omega, hz3, hL, hS, fun v hv => ?_, fun a ha => ?_⟩
  · subst hv
    obtain ⟨c₂, i₂, len₂, hc₂, hd₂, hf₂⟩ := hend
    have hcc : c₂ = c := by
      have h1 : s₂.code? f.method = U.code? f.method := by
        rw [State.code?_eq, State.code?_eq, hW'.alike.method?]
      exact Option.some.inj (hc₂.symm.trans (h1.trans h.code))
    subst hcc
    have hlen : len₂ = len := by rw [hd] at hd₂; cases hd₂; rfl
    subst hlen
    have hs₂ : s₂ = (({ U with heap := s₂.heap, slotsUsed := s₂.slotsUsed } : State).setVm s₂.vm).setTop { f with pc := f.pc + len₂, stack := v.toList ++ f.stack } := by
      refine e3.trans ?_
      rw [hf₂, State.calling_eq h.top, State.setFrames_setFrames, State.setTop_of_frames _ hr', hr]
      rfl
    rw [← hs₂]
    exact hsteps
  · subst ha
    have hf₂ : s₂.frames = .throwing a :: .java f :: U.frames.tail := hend
    have hs₂ : s₂ = ((({ U with heap := s₂.heap, slotsUsed := s₂.slotsUsed } : State).setVm s₂.vm).setTop f).pushFrame (.throwing a) := by
      refine e3.trans ?_
      rw [hf₂, State.calling_eq h.top, State.setFrames_setFrames, State.pushFrame, State.frames_setTop _ hr', State.setTop_of_frames _ hr', State.setFrames_setFrames, hr]
      rfl
    rw [← hs₂]
    exact hsteps
end R7

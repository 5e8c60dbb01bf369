set_option maxRecDepth 100000
/-! eight rows of three ints: multianewarray -/
def zmR (c : ClassId) : Cell := arrV c 3 (fun _ => .int 0)
def zmO (c : ClassId) (h i : Nat) : Cell := arrV c 8 (fun j => if j < i then .ref (h + 1 + j) else .null)
def zmS (s : State) (c d : ClassId) : Nat → State
  | 0 => s.pushCell (zmO c s.heap.size 0)
  | i + 1 => ((zmS s c d i).pushCell (zmR d)).setCell s.heap.size (zmO c s.heap.size (i + 1))
theorem zmO_up (c : ClassId) (h i : Nat) : (zmO c h i).setSlot i (.ref (h + 1 + i)) = zmO c h (i + 1) := by
  unfold zmO
  rw [arrV_store]
  congr 1
  funext j
  unfold updV
  by_cases e : j = i
  · subst e; simp
  · by_cases l : j < i
    · rw [if_neg e]
      show (if j < i then _ else _) = _
      rw [if_pos l, if_pos (by omega)]
    · rw [if_neg e]
      show (if j < i then _ else _) = _
      rw [if_neg l, if_neg (by omega)]
theorem zmS_at (s : State) (c d : ClassId) : ∀ i, (zmS s c d i).heap.size = s.heap.size + 1 + i ∧ (zmS s c d i).vm = s.vm ∧ (zmS s c d i).slotsUsed = s.slotsUsed + 8 + 3 * i ∧
    (zmS s c d i).heap[s.heap.size]? = some (zmO c s.heap.size i) ∧ (∀ a, a < s.heap.size → (zmS s c d i).heap[a]? = s.heap[a]?) ∧ ∀ j, j < i → (zmS s c d i).heap[s.heap.size + 1 + j]? = some (zmR d) := by
  intro i
  induction i with
  | zero => exact ⟨by simp [zmS], rfl, by simp [zmS, zmO, arrV_size], by simp [zmS], fun a ha => State.heap_pushCell_of_lt _ _ ha, fun j hj => by omega⟩
  | succ i ih =>
    obtain ⟨h1, h2, h3, h4, h5, h6⟩ := ih
    have hl : ∀ a, a < s.heap.size + 1 + i → ((zmS s c d i).pushCell (zmR d)).heap[a]? = (zmS s c d i).heap[a]? := fun a ha => State.heap_pushCell_of_lt _ _ (by rw [h1]; exact ha)
    refine ⟨by simp [zmS, State.setCell, h1]; omega, by simp [zmS, h2], by simp [zmS, h3, zmR, arrV_size]; omega, ?_, ?_, ?_⟩
    · exact State.heap_setCell_self (by rw [hl _ (by omega)]; exact h4)
    · intro a ha
      show (State.setCell _ _ _).heap[a]? = _
      rw [State.heap_setCell_other (show s.heap.size ≠ a by omega), hl _ (by omega)]
      exact h5 a ha
    · intro j hj
      show (State.setCell _ _ _).heap[_]? = _
      rw [State.heap_setCell_other (show s.heap.size ≠ s.heap.size + 1 + j by omega)]
      by_cases e : j = i
      · subst e
        rw [← h1]
        exact State.heap_pushCell_size _ _
      · rw [hl _ (by omega)]
        exact h6 j (by omega)
theorem zmS_top (s : State) (f : JFrame) (c d : ClassId) : ∀ i, zmS (s.setTop f) c d i = (zmS s c d i).setTop f := by
  intro i
  induction i with
  | zero => rfl
  | succ i ih => simp only [zmS, ih, State.heap_setTop, State.pushCell_setTop, State.setCell_setTop]
theorem arrV_congr {c : ClassId} {n : Nat} {f h : Nat → Value} (e : ∀ j, j < n → f j = h j) : arrV c n f = arrV c n h := by
  unfold arrV
  congr 1
  apply Array.ext
  · simp
  · intro i h1 h2
    simp only [Array.getElem_ofFn]
    exact e i (by simpa using h1)
section Y8
variable {E : CtlPost} {e : Env} {d : Bool} {acts : List Action} {s : State}
theorem zmk {c comp : ClassId} {k : Class} {ty : FieldType} {n : Nat} {v : Value} (hk : s.vm.classes[c]? = some k) (hkd : k.kind = .array comp ty) (l1 : ¬ n > e.platform.arrayLengthLimit) (l2 : ¬ n * componentBytes ty > e.platform.maxHeapBytes) (hf : fits ty v = true) (hd : v.isDefault = true) {Q : Addr → Pre}
    (r1 : s.heap.size < e.platform.maxCells) (r2 : s.slotsUsed + n ≤ e.platform.maxSlots) (q : Q s.heap.size d acts (s.pushCell (arrV c n (fun _ => v)))) : wp (Jvm.newArray c n v) Q E e d acts s := by
  have hda : allocActs (Array.replicate n v) s.heap.size acts = acts := by
    unfold allocActs
    rw [if_pos]
    rw [Array.all_replicate]
    split <;> simp [hd]
  have hfits : ∀ i w, (Array.replicate n v)[i]? = some w → s.fitsSlot c .none i w = true := by
    intro i w hw
    rw [Array.getElem?_replicate] at hw
    split at hw
    · cases hw; simp [State.fitsSlot, State.slotType?, hk, hkd, hf]
    · cases hw
  simp only [Jvm.newArray, Jvm.arrayFits, wp_bind', W.ask, W.ite, l1, if_false, wp_pure', W.theClass, hk, hkd, l2, W.alloc, W.stop, Option.some.injEq, exists_eq_left', Array.size_replicate, hda]
  rw [if_neg (by omega)]
  exact ⟨r1, r2, hfits, by rw [arrV_new]; exact q⟩
theorem zmk8 {c comp cc : ClassId} {k kc : Class} (hk : s.vm.classes[c]? = some k) (hkd : k.kind = .array comp (.array .int)) (hkc : s.vm.classes[comp]? = some kc) (hkcd : kc.kind = .array cc .int)
    (l1 : 8 ≤ e.platform.arrayLengthLimit) (l2 : 32 ≤ e.platform.maxHeapBytes) (r1 : s.heap.size + 9 ≤ e.platform.maxCells) (r2 : s.slotsUsed + 32 ≤ e.platform.maxSlots)
    {Q : Addr → Pre} (q : ∀ d' acts', Q s.heap.size d' acts' (zmS s c comp 8)) : wp (Op.multianewarray.make c [8, 3]) Q E e d acts s := by
  have c8 : (8 : Int32).toNatClampNeg = 8 := by decide
  have c3 : (3 : Int32).toNatClampNeg = 3 := by decide
  rw [Op.multianewarray.make]
  have n8 : ¬ ((8 : Int32) < 0) := by decide
  have n3 : ¬ ((3 : Int32) < 0) := by decide
  simp only [wp_bind', W.ite, n8, if_false, wp_pure', W.theClass, hk, hkd, Option.some.injEq, exists_eq_left']
  rw [c8]
  refine zmk hk hkd (by omega) (by show ¬ 8 * 4 > _; omega) rfl rfl (by omega) (by omega) ?_
  have hfind : ([(3 : Int32)].find? (· < 0)) = none := by decide
  simp only [hfind]
  rw [ite_self, wp_bind', Std.Legacy.Range.forIn_eq_forIn_range']
  have hsz : ([:8] : Std.Legacy.Range).size = 8 := by decide
  rw [hsz]
  show wp (forIn (List.range' 0 8 1) PUnit.unit _) _ E e d acts _
  refine wp_forIn_inv (fun rest s' => ∃ i, i ≤ 8 ∧ rest = List.range' i (8 - i) ∧ s' = zmS s c comp i) _ _ ⟨0, by omega, rfl, rfl⟩ ?_ ?_
  · rintro x rest s' d' acts' Q' ⟨i, hi, hl, rfl⟩ hnext
    have hlt : i < 8 := by
      rcases Nat.lt_or_ge i 8 with h | h
      · exact h
      · rw [show 8 - i = 0 by omega] at hl; simp at hl
    obtain ⟨rfl, hrest⟩ : x = i ∧ rest = List.range' (i + 1) (8 - (i + 1)) := by
      rw [show 8 - i = (8 - (i + 1)) + 1 by omega, List.range'_succ] at hl
      exact ⟨(List.cons.inj hl).1, (List.cons.inj hl).2⟩
    obtain ⟨g1, g2, g3, g4, g5, g6⟩ := zmS_at s c comp x
    simp only [wp_bind']
    rw [Op.multianewarray.make]
    have hkc' : (zmS s c comp x).vm.classes[comp]? = some kc := by rw [g2]; exact hkc
    simp only [wp_bind', W.ite, n3, if_false, wp_pure', W.theClass, hkc', hkcd, Option.some.injEq, exists_eq_left']
    rw [c3]
    refine zmk hkc' hkcd (by omega) (by show ¬ 3 * 4 > _; omega) rfl rfl (by rw [g1]; omega) (by rw [g3]; omega) ?_
    simp only [wp_bind', W.writeLoc, wp_pure']
    have hcell : ((zmS s c comp x).pushCell (zmR comp)).heap[s.heap.size]? = some (zmO c s.heap.size x) := by rw [State.heap_pushCell_of_lt _ _ (show s.heap.size < (zmS s c comp x).heap.size by rw [g1]; omega)]; exact g4
    refine ⟨zmO c s.heap.size x, hcell, by simp [zmO, arrV], by rw [show (zmO c s.heap.size x).slots.size = 8 from arrV_size _ _ _]; exact hlt, ?_, hnext _ _ _ ⟨x + 1, hlt, hrest, ?_⟩⟩
    · have hk' : ((zmS s c comp x).pushCell (zmR comp)).vm.classes[c]? = some k := by
        show (zmS s c comp x).vm.classes[c]? = _
        rw [g2]; exact hk
      have hff : ∀ a, fits (.array .int) (.ref a) = true := fun _ => rfl
      have hk2 : (zmS s c comp x).vm.classes[c]? = some k := hk'
      show State.fitsSlot ((zmS s c comp x).pushCell (zmR comp)) c .none x (.ref _) = true
      simpa [State.fitsSlot, State.slotType?, hk2, hkd] using hff _
    · rw [g1, zmO_up]; rfl
  · rintro s' d' acts' ⟨i, hi, hl, rfl⟩
    have hi8 : i = 8 := by
      rcases Nat.lt_or_ge i 8 with h | h
      · rw [show 8 - i = (8 - (i + 1)) + 1 by omega, List.range'_succ] at hl; cases hl
      · omega
    subst hi8
    simp only [wp_pure']
    exact q _ _
end Y8
theorem zover {args : Array Value} {s : State} (h : (Cond.arrayOver (.array .int)).before args s = true) : ∃ comp c k, s.vm.findClass "[I" = some comp ∧ s.vm.classes[c]? = some k ∧ k.kind = .array comp (.array .int) ∧ s.vm.findClass "[[I" = some c := by
  have e1 : (FieldType.array FieldType.int).toString = "[I" := by decide +kernel
  have e2 : "[" ++ "[I" = "[[I" := by decide +kernel
  simp only [Cond.before, Cond.holds, Cond.value, beq_iff_eq, e1, e2] at h
  cases hc : s.vm.findClass "[I" with
  | none => simp [hc] at h
  | some comp =>
    simp only [hc, Option.bind_some, Option.bind_eq_some_iff, Option.map_eq_some_iff] at h
    obtain ⟨c, hi, k, hk, hb⟩ := h
    obtain ⟨hlt, hp, -⟩ := Array.findIdx?_eq_some_iff_getElem.mp hi
    have hkk : s.vm.classes[c] = k := (Array.getElem?_eq_some_iff.mp hk).2
    rw [hkk] at hp
    cases hkind : k.kind with
    | array component ty =>
      rw [hkind] at hb hp
      simp at hb hp
      exact ⟨comp, c, k, rfl, hk, by rw [hkind, hp, hb.1], hb.2⟩
    | _ => rw [hkind] at hb; simp at hb
section Y9
variable {p : Program} {l : Launch} {e : Env} {R : Room} {s : State} {m : MethodId} {args : Array Value} {below : List Frame} {meth : Method} {c : Code} {T : State} {locs : List Loc} {cells slots : Nat}
theorem zmS_stand (X : Stand p l e R s m args below meth c T locs cells slots) (cA comp : ClassId) : ∀ i, ∃ L : List Loc, (∀ q ∈ L, q.base = T.heap.size) ∧ Stand p l e R s m args below meth c (zmS T cA comp i) (locs ++ L) (cells + 1 + i) (slots + 8 + 3 * i) := by
  intro i
  induction i with
  | zero =>
    have h := X.pushed (zmO cA T.heap.size 0)
    rw [show (zmO cA T.heap.size 0).slots.size = 8 from arrV_size _ _ _] at h
    exact ⟨[], (fun q hq => by cases hq), by rw [List.append_nil]; exact h⟩
  | succ i ih =>
    obtain ⟨L, hL, Xi⟩ := ih
    obtain ⟨g1, g2, g3, g4, g5, g6⟩ := zmS_at T cA comp i
    have hcell : ((zmS T cA comp i).pushCell (zmR comp)).heap[T.heap.size]? = some (zmO cA T.heap.size i) := by rw [State.heap_pushCell_of_lt _ _ (show T.heap.size < (zmS T cA comp i).heap.size by rw [g1]; omega)]; exact g4
    have h := (Xi.pushed (zmR comp)).stored hcell i (.ref (T.heap.size + 1 + i))
    rw [show (zmR comp).slots.size = 3 from arrV_size _ _ _, zmO_up] at h
    refine ⟨L ++ [⟨T.heap.size, i⟩], fun q hq => ?_, ?_⟩
    · rcases List.mem_append.mp hq with hq | hq
      · exact hL q hq
      · rw [List.mem_singleton.mp hq]
    · rw [← List.append_assoc]
      exact h
theorem zmulti (X : Stand p l e R s m args below meth c T locs cells slots) (hexec : p.tables.exec = Jvm.exec) {own : String} {idx : Nat}
    (hown : s.vm.findClass own = some m.cls) (hcl : (Cond.classLink own idx "[[I").before args s = true) {cA comp cc : ClassId} {kA kc : Class}
    (a1 : s.vm.findClass "[[I" = some cA) (f2 : s.vm.classes[cA]? = some kA) (f3 : kA.kind = .array comp (.array .int)) (hkc : s.vm.classes[comp]? = some kc) (hkcd : kc.kind = .array cc .int)
    {g : JFrame} (hg : g.method = m) (hdg : decode c.code g.pc = .ok (.multianewarray idx 2, 4)) {rest : List Value} (hstack : g.stack = .int 3 :: .int 8 :: rest) (r1 : cells + 9 ≤ R.cells) (r2 : slots + 32 ≤ R.slots) :
    ∃ (vm₁ : Vm) (L : List Loc), (∀ q ∈ L, q.base = T.heap.size) ∧ Stand p l e R s m args below meth c (zmS (T.setVm vm₁) cA comp 8) (locs ++ L) (cells + 9) (slots + 32) ∧
      ∀ target, Steps p.tables e below ((zmS (T.setVm vm₁) cA comp 8).setTop { g with pc := g.pc + 4, stack := .ref T.heap.size :: rest }) target → Steps p.tables e below (T.setTop g) target := by
  subst hg
  have hpl : e.platform.magicAccessors = ({} : Platform).magicAccessors := by rw [X.admits.platform]
  obtain ⟨c0, hfc0, hcl'⟩ := Cond.classLink_spec hown hcl e.platform hpl
  cases a1.symm.trans hfc0
  obtain ⟨hg₁, hwarm₁, hready₁⟩ := State.classEntry (e := e) X.warmed hcl'
  generalize T.vm.noted g.method.cls idx (.cls cA) = vm₁ at hg₁ hwarm₁ hready₁
  have hal : s.vm.Alike vm₁ := hwarm₁.alike
  obtain ⟨kA₁, hkA₁, heA⟩ := hal.2.2 _ _ f2
  obtain ⟨kC₁, hkC₁, heC⟩ := hal.2.2 _ _ hkc
  have d1 : kA₁.kind = .array comp (.array .int) := by rw [heA]; exact f3
  have d2 : kC₁.kind = .array cc .int := by rw [heC]; exact hkcd
  have X₁ := X.noted hwarm₁
  obtain ⟨L, hL, XF⟩ := zmS_stand X₁ cA comp 8
  obtain ⟨hr1, hr2⟩ := X.roomAbove r1 r2
  refine ⟨vm₁, L, hL, XF, fun target hrest => ?_⟩
  have l1 : 8 ≤ e.platform.arrayLengthLimit := by rw [Launch.admits_arrayLengthLimit X.admits]; omega
  have l2 : 32 ≤ e.platform.maxHeapBytes := by rw [Launch.admits_maxHeapBytes X.admits]; omega
  jvm_step X.here [hexec, hdg]
  simp only [Op.multianewarray.sem, wp_bind', W.resolveClassAt_links (State.method?_setTop g X.here.top) hg₁]
  rw [W.popN, if_neg (by decide)]
  refine ⟨g, State.topJava?_setTop' (s := T.setVm vm₁) g X.here.top, [.int 8, .int 3], rest, rfl, hstack, ?_⟩
  simp only [List.mapM_cons, List.mapM_nil, wp_bind', wp_pure']
  refine zmk8 (k := kA₁) (kc := kC₁) (comp := comp) (cc := cc) hkA₁ d1 hkC₁ d2 l1 l2 (by show T.heap.size + 9 ≤ _; omega) (by show T.slotsUsed + 32 ≤ _; omega) (fun d' acts' => ?_)
  have eS : ((T.setTop g).setVm vm₁).setTop { g with stack := rest } = (T.setVm vm₁).setTop { g with stack := rest } := by
    show ((T.setVm vm₁).setTop g).setTop _ = _
    rw [State.setTop_setTop]
  rw [eS, zmS_top]
  simp only [wp_bind', W.mark, W.pushRef, State.topJava?_setTop' _ XF.here.top, Option.some.injEq, exists_eq_left', State.setTop_setTop, State.heap_setTop]
  intro acts
  simp [jvm, XF.here.top]
  exact hrest
end Y9
def znG (σ : zM) : Option zM := if zN σ + 9 ≤ zE σ ∧ zU σ + 32 ≤ 7287785 then some (zF σ, fun a i => if a = zN σ then ((zN σ + 1 + i : Nat) : Int) else if zN σ < a ∧ a ≤ zN σ + 8 then 0 else zA σ a i, fun a => if a = zN σ then (110, 8) else if zN σ < a ∧ a ≤ zN σ + 8 then (101, 3) else zK σ a, zN σ + 9, zU σ + 32, zE σ) else none
section Z1
variable {g : zG} {M : zT} {lv pc idx : Nat} {ls : List (Nat × zV)} {st : List zV} {σ : zM} {out : zO} {α : Type} {r : α}
theorem gj_multi {σ' : zM} (hv : znG σ = some σ') (hd : decode M.2.1 pc = .ok (.multianewarray idx 2, 4)) (hq : Cond.classLink M.1.cls idx "[[I" ∈ lw_all) (ho : Cond.arrayOver (.array .int) ∈ lw_tbl)
    (kk : Gj g M lv (pc + 4) ls (zr (zN σ) :: st) σ' out) : Gj g M lv pc ls (zi 3 :: zi 8 :: st) σ out := by
  intro p e s m args below meth c H locs lc σs ⟨h1, h2, h3, h4, hz5, h6, h7, h8, h9, h10, h11⟩
  have hcx := h2
  obtain ⟨hx, hb, hml, hr, hlk, hown, hnm, hW, hh, hsz⟩ := hcx
  unfold znG at hv
  split at hv
  · rename_i hroom
    obtain ⟨hr1, hr2⟩ := hroom
    have hE : zE σ = zB g + 600384 := h3.2.1.2.1
    have hbN : zB g ≤ zN σ := h3.2.1.1
    have i8 : Int32.ofInt 8 = 8 := by decide
    have i3 : Int32.ofInt 3 = 3 := by decide
    have ety : zaty 110 = .array .int := rfl
    have ety1 : zaty 101 = .int := rfl
    have hA1 : s.vm.findClass "[I" = some (zY g 101) := zcls_of h1 hW (by omega) (by omega) (fun U cA h => va_nm_int h)
    have hA2 : s.vm.findClass "[[I" = some (zY g 110) := zcls_of h1 hW (by omega) (by omega) (fun U cA h => by
      have e2 : "[" ++ (FieldType.array FieldType.int).toString = "[[I" := by decide +kernel
      rw [← e2]; exact h)
    obtain ⟨comp, cA, kA, f1, f2, f3, f4⟩ := zover (h1.1 _ ho)
    rw [← hW.alike.findClass] at f1 f4
    cases hA1.symm.trans f1
    cases hA2.symm.trans f4
    obtain ⟨kA₁, hkA₁, heA⟩ := hW.alike.2.2 _ _ f2
    have d1 : kA₁.kind = .array (zY g 101) (.array .int) := by rw [heA]; exact f3
    obtain ⟨-, kS, hkS, compS, hkindS⟩ := zarr_of (n := 0) (z := fun _ => .null) h1 hW (show 101 ≤ 101 by omega) (by omega)
    simp only [List.map_cons, zval_i, i8, i3]
    intro T hT X
    obtain ⟨vm₁, L, hL, XF, stp⟩ := zmulti X hx hown (zw h1 hq hW args) hA2 hkA₁ d1 hkS hkindS (g := F0 m pc lc (.int 3 :: .int 8 :: st.map (zval g))) rfl (by rw [hb]; exact hd) rfl (by show _ ≤ zB g + 600384 - zN σs; omega) (by show _ ≤ 7287785 - zU σs; omega)
    obtain ⟨g1, g2, g3, g4, g5, g6⟩ := zmS_at (T.setVm vm₁) (zY g 110) (zY g 101) 8
    have eh : (T.setVm vm₁).heap = H := hT
    rw [eh] at g1 g4 g5 g6
    cases hv
    have K := kk p e s m args below meth c (zmS (T.setVm vm₁) (zY g 110) (zY g 101) 8).heap (locs ++ L) lc σs ⟨h1, h2, ?_, ?_, by show zN σs ≤ zN σ + 9; omega, by show zU σs ≤ zU σ + 32; omega, by show zN σ + 9 ≤ _; omega, by show zU σ + 32 ≤ _; omega, h9, h10, zmem ?_ (ztl (ztl h11))⟩
    · simp only [List.map_cons, zval_r, zref_at g (Int.natCast_nonneg (zN σ)), Int.toNat_natCast] at K
      have e1 : zN σ + 9 - zN σs = zN σ - zN σs + 9 := by omega
      have e2 : zU σ + 32 - zU σs = zU σ - zU σs + 32 := by omega
      rw [← e1, ← e2] at XF
      rw [← h3.1] at K
      obtain ⟨t, a1, b1⟩ := K _ rfl (by rw [h3.1]; exact XF)
      refine ⟨t, stp t ?_, b1⟩
      rw [hT]
      exact a1
    · obtain ⟨hz, ⟨hb0, he, hall⟩, hold, hk⟩ := h3
      rw [hz] at g1 g4 g5 g6
      have kk0 : ∀ a, (zK ((zF σ, fun a i => if a = zN σ then ((zN σ + 1 + i : Nat) : Int) else if zN σ < a ∧ a ≤ zN σ + 8 then 0 else zA σ a i, fun a => if a = zN σ then (110, 8) else if zN σ < a ∧ a ≤ zN σ + 8 then (101, 3) else zK σ a, zN σ + 9, zU σ + 32, zE σ) : zM) a) = if a = zN σ then (110, 8) else if zN σ < a ∧ a ≤ zN σ + 8 then (101, 3) else zK σ a := fun _ => rfl
      refine ⟨by show _ = zN σ + 9; rw [g1], ⟨by show zB g ≤ zN σ + 9; omega, he, fun a b1 b2 => ?_⟩, fun q hq => ?_, fun a ha => ?_⟩
      · rw [kk0]
        have b2' : a < zN σ + 9 := b2
        split
        · simp
        · split
          · simp
          · exact hall a b1 (by omega)
      · rw [g5 q (by omega)]; exact hold q hq
      · rw [kk0] at ha
        by_cases n1 : a = zN σ
        · subst n1
          refine ⟨hb0, ?_⟩
          unfold zcell
          rw [kk0, if_pos rfl]
          dsimp only
          rw [if_neg (by omega), if_neg (by omega)]
          refine ⟨?_, by omega, by omega, fun j hj => ?_⟩
          · rw [g4]
            refine congrArg some (arrV_congr (fun j hj => ?_))
            show (if j < 8 then Value.ref (zN σ + 1 + j) else .null) = zval g (ztag (zaty 110), if zN σ = zN σ then ((zN σ + 1 + j : Nat) : Int) else _)
            rw [if_pos hj, if_pos rfl]
            show _ = zval g (zr _)
            rw [zval_r, zref_at g (Int.natCast_nonneg _), Int.toNat_natCast]
          · show zokt g (.array .int) (if zN σ = zN σ then ((zN σ + 1 + j : Nat) : Int) else _)
            rw [if_pos rfl]
            show zokr g _
            unfold zokr
            omega
        · rw [if_neg n1] at ha
          by_cases n2 : zN σ < a ∧ a ≤ zN σ + 8
          · refine ⟨by omega, ?_⟩
            unfold zcell
            rw [kk0, if_neg n1, if_pos n2]
            dsimp only
            rw [if_neg (by omega), if_neg (by omega)]
            refine ⟨?_, by omega, by omega, fun j hj => ?_⟩
            · have e := g6 (a - (zN σ + 1)) (by omega)
              rw [show zN σ + 1 + (a - (zN σ + 1)) = a by omega] at e
              rw [e]
              refine congrArg some (arrV_congr (fun j hj => ?_))
              show Value.int 0 = zval g (ztag (zaty 101), if a = zN σ then _ else if zN σ < a ∧ a ≤ zN σ + 8 then 0 else _)
              rw [if_neg n1, if_pos n2]
              rfl
            · show zokt g .int (if a = zN σ then _ else if zN σ < a ∧ a ≤ zN σ + 8 then 0 else _)
              rw [if_neg n1, if_pos n2]
              exact ⟨by decide, by decide⟩
          · rw [if_neg n2] at ha
            obtain ⟨b1, b2⟩ := hk a ha
            refine ⟨b1, zcell_kept b2 (by rw [kk0, if_neg n1, if_neg n2]) (fun f => rfl) (by funext i; show (if a = zN σ then _ else if zN σ < a ∧ a ≤ zN σ + 8 then 0 else zA σ a i) = _; rw [if_neg n1, if_neg n2]) (g5 a ?_)⟩
            rw [← hz]
            unfold zcell at b2
            split at b2
            · obtain ⟨r, -, ⟨cell, q, -⟩, -⟩ := b2
              exact (Array.getElem?_eq_some_iff.mp q).1
            · split at b2
              · obtain ⟨cell, q, -⟩ := b2
                exact (Array.getElem?_eq_some_iff.mp q).1
              · exact (Array.getElem?_eq_some_iff.mp b2.1).1
    · intro q hq
      rcases List.mem_append.mp hq with hq | hq
      · exact h4 q hq
      · rw [hL q hq, hT, h3.1]; exact hbN
    · simp only [zok, zokr]
      simp
      omega
  · cases hv
theorem gb_multi {f : zM → Option α} (hd : decode M.2.1 pc = .ok (.multianewarray idx 2, 4)) (hq : Cond.classLink M.1.cls idx "[[I" ∈ lw_all) (ho : Cond.arrayOver (.array .int) ∈ lw_tbl) (kk : ∀ σ', f σ' = some r → Gj g M lv (pc + 4) ls (zr (zN σ) :: st) σ' out) : (znG σ).bind f = some r → Gj g M lv pc ls (zi 3 :: zi 8 :: st) σ out := fun h => by
  obtain ⟨σ', hv, h⟩ := zbE h
  exact gj_multi hv hd hq ho (kk σ' h)
end Z1

set_option maxRecDepth 100000
/-! the shadow memory: fields by number and address, arrays by address and place, kinds (class code, length) by address, heap size, slots used -/
abbrev zM : Type := (Nat → Nat → Int) × (Nat → Nat → Int) × (Nat → Nat × Nat) × Nat × Nat × Nat
abbrev zF (σ : zM) : Nat → Nat → Int := σ.1
abbrev zA (σ : zM) : Nat → Nat → Int := σ.2.1
abbrev zK (σ : zM) : Nat → Nat × Nat := σ.2.2.1
abbrev zN (σ : zM) : Nat := σ.2.2.2.1
abbrev zU (σ : zM) : Nat := σ.2.2.2.2.1
/-- the heap's end: no cell is made from there on -/
abbrev zE (σ : zM) : Nat := σ.2.2.2.2.2
/-- a typed value: 0 int, 1 long, 2 reference -/
abbrev zV : Type := Nat × Int
abbrev zi (a : Int) : zV := (0, a)
abbrev zj (a : Int) : zV := (1, a)
abbrev zr (a : Int) : zV := (2, a)
/-- an outcome: 0 returned, k+1 threw an exception of kind k; the value or the exception's address; the memory -/
abbrev zO : Type := Nat × zV × zM
/-- the constants of a run: launch, start state, script address, class numbers, slots, array classes, addresses of constants -/
abbrev zG : Type := Launch × State × Nat × (Nat → ClassId) × (Nat → Nat → Nat) × (Nat → ClassId) × (Nat → Nat) × Nat × (Nat → Int32)
abbrev zl (g : zG) : Launch := g.1
abbrev zs (g : zG) : State := g.2.1
abbrev zb (g : zG) : Nat := g.2.2.1
abbrev zC (g : zG) : Nat → ClassId := g.2.2.2.1
abbrev zI (g : zG) : Nat → Nat → Nat := g.2.2.2.2.1
abbrev zY (g : zG) : Nat → ClassId := g.2.2.2.2.2.1
abbrev zad (g : zG) : Nat → Nat := g.2.2.2.2.2.2.1
abbrev zL (g : zG) : Nat := g.2.2.2.2.2.2.2.1
abbrev zX (g : zG) : Nat → Int32 := g.2.2.2.2.2.2.2.2
/-- the first new address -/
abbrev zB (g : zG) : Nat := (zs g).heap.size
def zref (g : zG) (a : Int) : Value := if a = -1 then .null else if 0 ≤ a then .ref a.toNat else .ref (zad g (-2 - a).toNat)
/-- the formatter: null or an object -/
def zfm (g : zG) : Value := if zad g 20 = 0 then .null else .ref (zad g 20 - 1)
def zval (g : zG) (v : zV) : Value := if v.1 = 0 then .int (Int32.ofInt v.2) else if v.1 = 1 then .long (Int64.ofInt v.2) else if v = (4, -22) then zfm g else zref g v.2
def zokr (g : zG) (a : Int) : Prop := a = -1 ∨ (zB g : Int) ≤ a ∨ (-12 ≤ a ∧ a ≤ -2) ∨ a = -21
def zok (g : zG) (v : zV) : Prop := if v.1 = 0 then -2147483648 ≤ v.2 ∧ v.2 < 2147483648 else if v.1 = 1 then -9223372036854775808 ≤ v.2 ∧ v.2 < 9223372036854775808 else if v.1 = 4 then True else zokr g v.2
/-- the classes -/
abbrev zcl : List vw_C := [(RX1, TX1, 12), (RX1, TX1, 12), (RX2, TX2, 22), (RX3, TX3, 4), (RX4, TX4, 7), (RX1, TX1, 12), (RX6, TX6, 8), (RX7, TX7, 10), (RX8, TX8, 23), (RX9, TX9, 84), (RX1, TX1, 12), (RX11, TX11, 12), (RX12, TX12, 1), (RX13, TX13, 1), (RX14, TX14, 3), (RX15, TX15, 3), (RX16, TX16, 1), (RX17, TX17, 1), (RX18, TX18, 4), (RX19, TX19, 3), (RJ1, TJ1, 4), (RJ2, TJ2, 4), (RJ6, TJ6, 3)]
def zty (ci k : Nat) : FieldType := match ci with
  | 2 => tyX2 k
  | 3 => tyX3 k
  | 4 => tyX4 k
  | 6 => tyX6 k
  | 7 => tyX7 k
  | 8 => tyX8 k
  | 9 => tyX9 k
  | 11 => tyX11 k
  | 12 => tyX12 k
  | 13 => tyX13 k
  | 14 => tyX14 k
  | 15 => tyX15 k
  | 16 => tyX16 k
  | 17 => tyX17 k
  | 18 => tyX18 k
  | 19 => tyX19 k
  | 20 => tyJ1 k
  | 21 => tyJ2 k
  | 22 => tyJ6 k
  | _ => tyX1 k
/-- the number of a class's k-th field: those that Reader gives to its two heirs have one number -/
def zfid (ci k : Nat) : Nat := if (ci = 6 ∨ ci = 7) ∧ k < 5 then 500 + k else 100 * ci + k
def ztag (t : FieldType) : Nat := match t with
  | .long => 1
  | .object _ => 2
  | .array _ => 2
  | _ => 0
def zokt (g : zG) (t : FieldType) (a : Int) : Prop := match t with
  | .long => -9223372036854775808 ≤ a ∧ a < 9223372036854775808
  | .object _ => zokr g a
  | .array _ => zokr g a
  | .boolean => a = 0 ∨ a = 1
  | .byte => -128 ≤ a ∧ a < 128
  | .char => 0 ≤ a ∧ a < 65536
  | _ => -2147483648 ≤ a ∧ a < 2147483648
/-- arrays by their kind: 101 int, 102 long, 103 boolean, 104 byte, 105.. references -/
def zaty (k : Nat) : FieldType := match k with
  | 101 => .int
  | 102 => .long
  | 103 => .boolean
  | 104 => .byte
  | 105 => .object "java/lang/Object"
  | 106 => .object "LassoFinder$Statement"
  | 107 => .object "LassoFinder$Routine"
  | 108 => .object "LassoFinder$Temporal"
  | 109 => .object "LassoFinder$Claim"
  | _ => .array .int
/-- exceptions by their kind -/
def zex (k : Nat) : String := match k with
  | 51 => "java/lang/IllegalArgumentException"
  | 52 => "java/lang/IllegalStateException"
  | 53 => "java/lang/UnsupportedOperationException"
  | _ => "java/lang/IndexOutOfBoundsException"
def zobj (g : zG) (σ : zM) (ci a : Nat) (H : Heap) : Prop := ∃ r : vw_C, zcl[ci]? = some r ∧ t_OB a (zC g ci) r.2.2 (zI g ci) H (fun k => zval g (ztag (zty ci k), zF σ (zfid ci k) a)) ∧ ∀ k, k < r.2.2 → zokt g (zty ci k) (zF σ (zfid ci k) a)
def zarr (g : zG) (σ : zM) (k n a : Nat) (H : Heap) : Prop := H[a]? = some (arrV (zY g k) n (fun j => zval g (ztag (zaty k), zA σ a j))) ∧ n < 2147483648 ∧ k ≤ 110 ∧ ∀ j, j < n → zokt g (zaty k) (zA σ a j)
def zexc (g : zG) (k a : Nat) (H : Heap) : Prop := ∃ cell : Cell, H[a]? = some cell ∧ cell.vm ≠ .unknown ∧ cell.vm.isStatics = false ∧ (zs g).vm.findClass (zex k) = some cell.cls
def zcell (g : zG) (σ : zM) (a : Nat) (H : Heap) : Prop := if (zK σ a).1 ≤ 50 then zobj g σ ((zK σ a).1 - 1) a H else if (zK σ a).1 ≤ 100 then zexc g (zK σ a).1 a H else zarr g σ (zK σ a).1 (zK σ a).2 a H
/-- the heap is what the memory says -/
def zHp (g : zG) (σ : zM) (H : Heap) : Prop := H.size = zN σ ∧ (zB g ≤ zN σ ∧ zE σ = zB g + 600384 ∧ ∀ a, zB g ≤ a → a < zN σ → (zK σ a).1 ≠ 0) ∧ (∀ q, q < zB g → H[q]? = (zs g).heap[q]?) ∧ ∀ a, (zK σ a).1 ≠ 0 → zB g ≤ a ∧ zcell g σ a H
/-- a method: its name, code, locals, answer, handlers -/
abbrev zT : Type := MethodName × ByteArray × Nat × Option FieldType × List (Nat × Nat × Nat × Nat)
def zroom (g : zG) (lv : Nat) (σ : zM) : Room := { frames := lv, cells := zB g + 600384 - zN σ, slots := 7287785 - zU σ, locals := 46 * lv + 192 }
/-- the tables' words and what else is known at the start -/
def zcodeW (M : zT) : Cond := if M.2.2.2.2 = [] then Cond.code M.1 M.2.1 M.2.2.1 M.2.2.2.1 else Cond.codeWith M.1 M.2.1 M.2.2.1 M.2.2.2.1 M.2.2.2.2
def zout (g : zG) (out : zO) (o : Outcome) : Prop := if out.1 = 0 then (if out.2.1.1 = 3 then o = .returned none else o = .returned (some (zval g out.2.1))) ∧ (out.2.1.1 ≠ 3 → zok g out.2.1) else o = .threw out.2.1.2.toNat ∧ (zB g : Int) ≤ out.2.1.2 ∧ (zK out.2.2 out.2.1.2.toNat).1 = out.1 + 50 ∧ out.1 ≤ 4
/-- the end of a call -/
def zfin (g : zG) (σs : zM) (out : zO) (s : State) (o : Outcome) (t : State) : Prop :=
  zout g out o ∧ zHp g out.2.2 t.heap ∧ s.WarmedH t.vm ∧ zN σs ≤ zN out.2.2 ∧ zU σs ≤ zU out.2.2 ∧ (zN out.2.2 ≤ zB g + 600384 ∧ zU out.2.2 ≤ 7287785) ∧ ∃ L : List Loc, s.sameButNew ({ t with vm := s.vm } : State) L (zN out.2.2 - zN σs) (zU out.2.2 - zU σs) ∧ ∀ q ∈ L, zB g ≤ q.base
/-- the start of a call -/
def zin (g : zG) (σ : zM) (U : State) : Prop := (zs g).WarmedH U.vm ∧ zHp g σ U.heap ∧ zN σ ≤ zB g + 600384 ∧ zU σ ≤ 7287785
def zkinds : List String := ["SET", "WAIT", "SEND", "RECEIVE", "NOTHING", "ELSE", "SELECTION", "REPETITION", "ATOMIC", "BREAK", "JUMP"]
/-- constants at the start: the empty text that Reader names, the formatter that String's index check hands on, the class object of Object[] -/
def zconst (g : zG) : Prop :=
  (vk_R "LassoFinder$Reader" 9 "" (zad g 19) (zs g) ∧ zad g 19 < zB g ∧ True ∧ ∀ i, i < 11 → zad g i ≠ zad g 19) ∧
  va_Z "jdk/internal/util/Preconditions" "SIOOBE_FORMATTER" "Ljava/util/function/BiFunction;" (zfm g) (fun q => zB g ≤ q) (zs g) (zs g).heap ∧
  va_Mi "[Ljava/lang/Object;" (zad g 21) (zs g)
/-- what is known at the start -/
def zgok (g : zG) : Prop :=
  (∀ w ∈ lw_tbl, w.before #[Value.ref (zb g)] (zs g) = true) ∧ (∀ (ci : Nat) (q : vw_C), zcl[ci]? = some q → u_Kn (zs g) q.1 q.2.1 q.2.2 (zC g ci) (zI g ci)) ∧
  (∀ k, 101 ≤ k → k ≤ 110 → ArrOfT (zs g) (zY g k) (zaty k) ∧ va_RA (zs g) (zY g k) (zaty k)) ∧
  va_En "LassoFinder$Kind" "LLassoFinder$Kind;" zkinds [("java/lang/Enum", "ordinal", "I", [0, 1, 2, 3, 4, 5, 6, 7, 8, 9, 10])] (zad g) (fun q => zB g ≤ q) (zs g) (zs g).heap ∧
  va_X (zb g) (zL g) (zX g) (zs g) (zs g).heap ∧ zb g < zB g ∧ zad g 18 = zb g ∧ zL g ≤ 192 ∧ True ∧
  va_Z "java/lang/String" "COMPACT_STRINGS" "Z" (.int 1) (fun q => zB g ≤ q) (zs g) (zs g).heap ∧ (zl g).flags = flags0 ∧
  (Jvm.Cond.and given_1 narrow_1).before #[Value.ref (zb g)] (zs g) = true ∧ zconst g
/-- a method's invocation -/
def zcx (g : zG) (M : zT) (σs : zM) (p : Program) (s : State) (m : MethodId) (meth : Method) (c : Code) : Prop :=
  p.tables.exec = Jvm.exec ∧ c.code = M.2.1 ∧ c.maxLocals = M.2.2.1 ∧ meth.sig.returnType = M.2.2.2.1 ∧ meth.locks = false ∧ s.vm.findClass M.1.cls = some m.cls ∧ meth.name = M.1.name ∧ (zs g).WarmedH s.vm ∧
  c.exceptionTable.toList.map (fun h => (h.startPc, h.endPc, h.handlerPc, h.catchType)) = M.2.2.2.2 ∧ zHp g σs s.heap
/-- where a walk stands -/
def zst (g : zG) (M : zT) (ls : List (Nat × zV)) (st : List zV) (σ : zM) (p : Program) (s : State) (m : MethodId) (meth : Method) (c : Code) (H : Heap) (locs : List Loc) (lc : Array Slot) (σs : zM) : Prop :=
  zgok g ∧ zcx g M σs p s m meth c ∧ zHp g σ H ∧ (∀ q ∈ locs, zB g ≤ q.base) ∧ zN σs ≤ zN σ ∧ zU σs ≤ zU σ ∧ zN σ ≤ zB g + 600384 ∧ zU σ ≤ 7287785 ∧ lv_has lc M.2.2.1 (ls.map fun q => (q.1, zval g q.2)) ∧ (∀ q ∈ ls, zok g q.2) ∧ (∀ v ∈ st, zok g v)
def zQ (g : zG) (σs : zM) (out : zO) (s : State) (below : List Frame) (t : State) : Prop := ∃ o, t.status = .running ∧ Ended t below o ∧ zfin g σs out s o t
/-- the frame at pc comes to the outcome -/
def Gj (g : zG) (M : zT) (lv pc : Nat) (ls : List (Nat × zV)) (st : List zV) (σ : zM) (out : zO) : Prop :=
  ∀ (p : Program) (e : Env) (s : State) (m : MethodId) (args : Array Value) (below : List Frame) (meth : Method) (c : Code) (H : Heap) (locs : List Loc) (lc : Array Slot) (σs : zM),
    zst g M ls st σ p s m meth c H locs lc σs → W p (zl g) e (zroom g lv σs) s m args below meth c H locs (zN σ - zN σs) (zU σ - zU σs) (zQ g σs out s below) (F0 m pc lc (st.map (zval g)))
/-- the call comes to the outcome -/
def Cj (g : zG) (lv : Nat) (M : zT) (as : List zV) (σ : zM) (out : zO) : Prop :=
  zgok g → (∀ v ∈ as, zok g v) → MetFree (zl g) M.1 (headSpec [zcodeW M] (zroom g lv σ)) (fun a U => a = (as.map (zval g)).toArray ∧ zin g σ U) (fun _ _ _ _ _ => True) (fun _ s o t => zfin g σ out s o t)
def zadd (a b : Int) : Int := (Int32.ofInt a + Int32.ofInt b).toInt
def zsub (a b : Int) : Int := (Int32.ofInt a - Int32.ofInt b).toInt
def zmul (a b : Int) : Int := (Int32.ofInt a * Int32.ofInt b).toInt
def zdiv (a b : Int) : Int := (Int32.ofInt a / Int32.ofInt b).toInt
def zrem (a b : Int) : Int := (Int32.ofInt a - Int32.ofInt a / Int32.ofInt b * Int32.ofInt b).toInt
def zneg (a : Int) : Int := (-(Int32.ofInt a)).toInt
def zand (a b : Int) : Int := (Int32.ofInt a &&& Int32.ofInt b).toInt
def zor (a b : Int) : Int := (Int32.ofInt a ||| Int32.ofInt b).toInt
def zxor (a b : Int) : Int := (Int32.ofInt a ^^^ Int32.ofInt b).toInt
theorem zval_int (g : zG) (x : Int32) : zval g (zi x.toInt) = .int x := by simp [zval, Int32.ofInt_toInt]
theorem zval_i (g : zG) (a : Int) : zval g (zi a) = .int (Int32.ofInt a) := by simp [zval]
theorem zval_long (g : zG) (x : Int64) : zval g (zj x.toInt) = .long x := by simp [zval, Int64.ofInt_toInt]
theorem zval_j (g : zG) (a : Int) : zval g (zj a) = .long (Int64.ofInt a) := by simp [zval]
theorem zval_r (g : zG) (a : Int) : zval g (zr a) = zref g a := by simp [zval]
theorem zok_int (g : zG) (x : Int32) : zok g (zi x.toInt) := by
  have h1 := Int32.le_toInt x
  have h2 := Int32.toInt_lt x
  simp only [zok, if_true]
  constructor <;> omega
theorem zok_long (g : zG) (x : Int64) : zok g (zj x.toInt) := by
  have h1 := Int64.le_toInt x
  have h2 := Int64.toInt_lt x
  simp only [zok]
  constructor <;> omega
theorem zok_i {g : zG} {a : Int} (h : zok g (zi a)) : (Int32.ofInt a).toInt = a := by
  simp only [zok, if_true] at h
  exact Int32.toInt_ofInt_of_le (by omega) (by omega)
theorem zok_j {g : zG} {a : Int} (h : zok g (zj a)) : (Int64.ofInt a).toInt = a := by
  simp only [zok] at h
  exact Int64.toInt_ofInt_of_le (by simpa using h.1) (by simpa using h.2)

set_option maxRecDepth 100000
def zwok : Cond → Bool
  | .declares _ => true
  | .castable .. => true
  | .laysStatic .. => true
  | w => goodWord w
/-- the old heap as it was -/
def zold (g : zG) (U : State) : Prop := ∀ q, q < zB g → U.heap[q]? = (zs g).heap[q]?
theorem zw2 {g : zG} (hg : zgok g) {w : Cond} (hw : w ∈ lw_tbl) (h : zwok w = true) {U : State} (hW : (zs g).WarmedH U.vm) (hO : zold g U) (a : Array Value) : w.before a U = true := by
  have h0 := hg.1 w hw
  unfold zwok at h
  split at h
  · exact va_Nw.use rfl (va_Nw.warmD hW (va_Nw.of rfl h0))
  · exact va_Nw.use rfl (va_Nw.warmC hW (va_Nw.of rfl h0))
  · rename_i O f d
    obtain ⟨c, k, i, fd, ad, cell, hc, hf, hst, hsta, hcell, hiss, hcls, hlt, hty⟩ := Cond.laysStatic_spec (Cond.laysStatic_setVm (args := #[Value.ref (zb g)]) hW.alike h0)
    have hc' : U.vm.findClass O = some c := hc
    have hf' : U.fieldFound? O f d = some (c, k, i, fd) := hf
    have hcell' : U.heap[ad]? = some cell := by
      have h1 : (zs g).heap[ad]? = some cell := hcell
      rw [hO ad (Array.getElem?_eq_some_iff.mp h1).1]; exact h1
    simp [Cond.before, Cond.holds, Cond.value, hc', hf', hst, hsta, hcell', hiss, hcls, hlt, hty]
  · exact word_at hW (good_of_word h) h0
theorem ztb (ws : List Cond) (ps : List Nat) (hp : ws = ps.filterMap (fun i => lw_tbl[i]?)) (hg : ws.all zwok = true) : ∀ w ∈ ws, w ∈ lw_tbl ∧ zwok w = true := by
  intro w h
  have h1 := List.all_eq_true.mp hg w h
  rw [hp] at h
  obtain ⟨i, -, hi⟩ := List.mem_filterMap.mp h
  exact ⟨List.mem_of_getElem? hi, h1⟩
def zownA (X : String) : List Cond := [.instantiable X 6, .castable X X, .selects X Bundle.tFill0 Bundle.tFill0, .selects X Bundle.tFill Bundle.tFill,
   .lays X Bundle.tN "cause" "Ljava/lang/Throwable;", .lays X Bundle.tN "stackTrace" Bundle.steD, .lays X Bundle.tN "suppressedExceptions" Bundle.listD, .lays X Bundle.tN "detailMessage" "Ljava/lang/String;",
   .fieldLink Bundle.tN 198 Bundle.tN "backtrace" "Ljava/lang/Object;", .lays Bundle.tN Bundle.tN "backtrace" "Ljava/lang/Object;", .lays X Bundle.tN "backtrace" "Ljava/lang/Object;", .initialized X]
theorem z_thr : ∀ w ∈ Bundle.throwableAtoms, w ∈ lw_tbl ∧ zwok w = true := ztb _ [114, 411, 420, 427, 430, 432, 412, 413, 152, 153, 414, 419, 428, 638, 401, 639, 403, 640, 405, 415, 416, 417, 418, 407] (by decide +kernel) (by decide +kernel)
theorem z_chain51 : ∀ w ∈ Bundle.chain0Atoms "java/lang/IllegalArgumentException" ["java/lang/RuntimeException", "java/lang/Exception"], w ∈ lw_tbl ∧ zwok w = true := ztb _ [1089, 1090, 1091, 1092, 392, 1092, 1093, 1094, 1095, 394, 1095, 1096, 1097, 412, 396] (by decide +kernel) (by decide +kernel)
theorem z_own51 : ∀ w ∈ zownA "java/lang/IllegalArgumentException", w ∈ lw_tbl ∧ zwok w = true := ztb _ [390, 391, 398, 399, 400, 402, 404, 406, 636, 409, 408, 117] (by decide +kernel) (by decide +kernel)
theorem z_chain52 : ∀ w ∈ Bundle.chain0Atoms "java/lang/IllegalStateException" ["java/lang/RuntimeException", "java/lang/Exception"], w ∈ lw_tbl ∧ zwok w = true := ztb _ [1549, 1550, 1551, 1092, 392, 1092, 1093, 1094, 1095, 394, 1095, 1096, 1097, 412, 396] (by decide +kernel) (by decide +kernel)
theorem z_own52 : ∀ w ∈ zownA "java/lang/IllegalStateException", w ∈ lw_tbl ∧ zwok w = true := ztb _ [1540, 1541, 1542, 423, 1543, 1544, 1545, 1546, 636, 409, 1547, 140] (by decide +kernel) (by decide +kernel)
theorem z_chain53 : ∀ w ∈ Bundle.chain0Atoms "java/lang/UnsupportedOperationException" ["java/lang/RuntimeException", "java/lang/Exception"], w ∈ lw_tbl ∧ zwok w = true := ztb _ [1446, 1447, 1448, 1092, 392, 1092, 1093, 1094, 1095, 394, 1095, 1096, 1097, 412, 396] (by decide +kernel) (by decide +kernel)
theorem z_own53 : ∀ w ∈ zownA "java/lang/UnsupportedOperationException", w ∈ lw_tbl ∧ zwok w = true := ztb _ [1437, 1438, 1439, 426, 1440, 1441, 1442, 1443, 636, 409, 1444, 139] (by decide +kernel) (by decide +kernel)
theorem z_chain54 : ∀ w ∈ Bundle.chain0Atoms "java/lang/IndexOutOfBoundsException" ["java/lang/RuntimeException", "java/lang/Exception"], w ∈ lw_tbl ∧ zwok w = true := ztb _ [1827, 1828, 1829, 1092, 392, 1092, 1093, 1094, 1095, 394, 1095, 1096, 1097, 412, 396] (by decide +kernel) (by decide +kernel)
theorem z_own54 : ∀ w ∈ zownA "java/lang/IndexOutOfBoundsException", w ∈ lw_tbl ∧ zwok w = true := ztb _ [1818, 1819, 1820, 424, 1821, 1822, 1823, 1824, 636, 409, 1825, 128] (by decide +kernel) (by decide +kernel)
/-- a static that holds a reference or null, at a later state -/
theorem z_isRef {g : zG} (hg : zgok g) {O f d : String} (q1 : Cond.laysStatic O f d ∈ lw_tbl) (q2 : Cond.initialized O ∈ lw_all) (hr : (Cond.isRef (.static O f d)).before #[Value.ref (zb g)] (zs g) = true) {U : State} (hW : (zs g).WarmedH U.vm) (hO : zold g U) (a : Array Value) : (Cond.isRef (.static O f d)).before a U = true := by
  have h0 : va_Zq O f d (fun q => zB g ≤ q) (zs g) (zs g).heap := va_Zqof (hg.1 _ q1) (hg.1 _ (lw_all_tbl q2)) hr (fun a ha => Nat.not_le.mpr ha)
  have h1 : va_Zq O f d (fun q => zB g ≤ q) U U.heap := (h0.moved hW.alike).kept (fun a ha _ => hO a ha)
  rcases h1 with ⟨cf, kf, fi, fd, ad, cell, e1, e2, e3, e4, e5, e6, e7, e8⟩ | ⟨t, cf, kf, fi, fd, ad, cell, e1, e2, e3, e4, e5, e6, e7, e8⟩
  · simp [Cond.before, Cond.holds, Cond.value, Term.eval, State.fieldNamed?, e1, e2, e4, e5, e6, e7]
  · simp [Cond.before, Cond.holds, Cond.value, Term.eval, State.fieldNamed?, e1, e2, e4, e5, e6, e7]
theorem z_flat {g : zG} (hg : zgok g) {w : Cond} (hw : w ∈ flatC (Jvm.Cond.and given_1 narrow_1)) : w.before #[Value.ref (zb g)] (zs g) = true := flat_of_before _ hg.2.2.2.2.2.2.2.2.2.2.2.1 _ hw
theorem z_ref1 : Cond.isRef (.static Bundle.tN "UNASSIGNED_STACK" Bundle.steD) ∈ flatC (Jvm.Cond.and given_1 narrow_1) := by decide +kernel
theorem z_ref2 : Cond.isRef (.static Bundle.tN "SUPPRESSED_SENTINEL" Bundle.listD) ∈ flatC (Jvm.Cond.and given_1 narrow_1) := by decide +kernel
theorem z_initT : Cond.initialized Bundle.tN ∈ lw_all := by
  have h := z_thr (Cond.initialized Bundle.tN) (by simp [Bundle.throwableAtoms])
  exact lw_g h.1 rfl
/-- the words for an exception of kind k -/
def zexA (k : Nat) : Prop := (∀ w ∈ Bundle.chain0Atoms (zex k) ["java/lang/RuntimeException", "java/lang/Exception"], w ∈ lw_tbl ∧ zwok w = true) ∧ (∀ w ∈ zownA (zex k), w ∈ lw_tbl ∧ zwok w = true) ∧ Bundle.fit (zex k) = true
theorem zexA_all {k : Nat} (h : 51 ≤ k ∧ k ≤ 54) : zexA k := by
  have : k = 51 ∨ k = 52 ∨ k = 53 ∨ k = 54 := by omega
  rcases this with h | h | h | h <;> subst h
  · exact ⟨z_chain51, z_own51, by decide +kernel⟩
  · exact ⟨z_chain52, z_own52, by decide +kernel⟩
  · exact ⟨z_chain53, z_own53, by decide +kernel⟩
  · exact ⟨z_chain54, z_own54, by decide +kernel⟩
theorem zexW {g : zG} (hg : zgok g) {k : Nat} (hk : 51 ≤ k ∧ k ≤ 54) {U : State} (hW : (zs g).WarmedH U.vm) (hO : zold g U) {own : String} {ic : Nat} (q : Cond.methodLink own ic (Bundle.init0 (zex k)) ∈ lw_all) (a : Array Value) :
    ∀ w ∈ Bundle.ownAtoms0 own ic (zex k) ["java/lang/RuntimeException", "java/lang/Exception"], w.before a U = true := by
  obtain ⟨h1, h2, -⟩ := zexA_all hk
  have hc : ∀ w, w ∈ lw_tbl ∧ zwok w = true → w.before a U = true := fun w h => zw2 hg h.1 h.2 hW hO a
  intro w hw
  have ho : ∀ w ∈ zownA (zex k), w.before a U = true := fun w h => hc w (h2 w h)
  unfold Bundle.ownAtoms0 at hw
  rcases List.mem_append.mp hw with hw | hw
  · rcases List.mem_append.mp hw with hw | hw
    · exact hc w (z_thr w hw)
    · exact hc w (h1 w hw)
  · simp only [List.mem_cons, List.not_mem_nil, or_false] at hw
    rcases hw with e | e | e | e | e | e | e | e | e | e | e | e | e | e <;> subst e
    · exact zw hg q hW a
    · exact ho _ (by simp [zownA])
    · exact ho _ (by simp [zownA])
    · exact ho _ (by simp [zownA])
    · exact ho _ (by simp [zownA])
    · exact ho _ (by simp [zownA])
    · exact ho _ (by simp [zownA])
    · exact ho _ (by simp [zownA])
    · exact ho _ (by simp [zownA])
    · exact z_isRef hg (z_thr _ (by simp [Bundle.throwableAtoms])).1 z_initT (z_flat hg z_ref1) hW hO a
    · exact z_isRef hg (z_thr _ (by simp [Bundle.throwableAtoms])).1 z_initT (z_flat hg z_ref2) hW hO a
    · exact ho _ (by simp [zownA])
    · exact ho _ (by simp [zownA])
    · exact ho _ (by simp [zownA])

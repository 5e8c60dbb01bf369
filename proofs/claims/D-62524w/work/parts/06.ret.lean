section R3
variable {g : zG} {M : zT} {lv pc : Nat} {ls : List (Nat × zV)} {st : List zV} {σ : zM} {out : zO}
def zgt : FieldType → Bool
  | .float => false
  | .double => false
  | .short => false
  | _ => true
theorem zok_of {t : FieldType} {a : Int} (h : zokt g t a) : zok g (ztag t, a) := by
  cases t <;> simp only [zokt, ztag, zok] at h ⊢ <;> simp <;> first | exact h | omega
theorem znf {t : FieldType} (ht : zgt t = true) {a : Int} (h : zokt g t a) : narrow t (zval g (ztag t, a)) = zval g (ztag t, a) ∧ fits t (zval g (ztag t, a)) = true := by
  cases t with
  | boolean =>
    rcases h with h | h <;> subst h <;> exact ⟨rfl, rfl⟩
  | byte =>
    have hh := h
    simp only [zokt] at hh
    have e : (Int32.ofInt a).toInt = a := Int32.toInt_ofInt_of_le (by omega) (by omega)
    refine ⟨?_, ?_⟩
    · show Value.int (Int32.ofInt a).toInt8.toInt32 = Value.int (Int32.ofInt a)
      rw [lg_i2b_small (by rw [e]; exact hh.1) (by rw [e]; exact hh.2)]
    · show (decide (-128 ≤ Int32.ofInt a) && decide (Int32.ofInt a ≤ 127)) = true
      simp only [Bool.and_eq_true, decide_eq_true_eq, Int32.le_iff_toInt_le, e]
      exact ⟨hh.1, by have := hh.2; show a ≤ 127; omega⟩
  | char =>
    have hh := h
    simp only [zokt] at hh
    have e : (Int32.ofInt a).toInt = a := Int32.toInt_ofInt_of_le (by omega) (by omega)
    refine ⟨?_, ?_⟩
    · show Value.int (Int32.ofInt a).toUInt32.toUInt16.toUInt32.toInt32 = Value.int (Int32.ofInt a)
      rw [lg_i2c_small (by rw [e]; exact hh.1) (by rw [e]; exact hh.2)]
    · show (decide (0 ≤ Int32.ofInt a) && decide (Int32.ofInt a ≤ 65535)) = true
      simp only [Bool.and_eq_true, decide_eq_true_eq, Int32.le_iff_toInt_le, e]
      exact ⟨hh.1, by have := hh.2; show a ≤ 65535; omega⟩
  | int => exact ⟨rfl, rfl⟩
  | long => exact ⟨rfl, rfl⟩
  | object c =>
    show narrow (.object c) (zref g a) = zref g a ∧ fits (.object c) (zref g a) = true
    rcases zref_or g a with e | ⟨x, e⟩ <;> rw [e] <;> exact ⟨rfl, rfl⟩
  | array c =>
    show narrow (.array c) (zref g a) = zref g a ∧ fits (.array c) (zref g a) = true
    rcases zref_or g a with e | ⟨x, e⟩ <;> rw [e] <;> exact ⟨rfl, rfl⟩
  | float => cases ht
  | double => cases ht
  | short => cases ht
/-- from the kit's end of a method to ours -/
theorem zend {p : Program} {l : Launch} {e : Env} {R : Room} {s : State} {m : MethodId} {args : Array Value} {below : List Frame} {meth : Method} {c : Code} {H : Heap} {locs : List Loc} {f : JFrame} {σs : zM} (h5 : zN σs ≤ zN out.2.2) (h6 : zU σs ≤ zU out.2.2) (h7 : zN out.2.2 ≤ zB g + 600384) (h8 : zU out.2.2 ≤ 7287785)
    (k : W p l e R s m args below meth c H locs (zN out.2.2 - zN σs) (zU out.2.2 - zU σs) (MQ below (fun _ s o t => zout g out o ∧ zHp g out.2.2 t.heap ∧ s.WarmedH t.vm) args s (zN out.2.2 - zN σs) (zU out.2.2 - zU σs) (fun q => zB g ≤ q)) f) :
    W p l e R s m args below meth c H locs (zN out.2.2 - zN σs) (zU out.2.2 - zU σs) (zQ g σs out s below) f := by
  intro T hT X
  obtain ⟨t, a1, o, b1, b2, ⟨b3, b4, b5⟩, L, hF, hL⟩ := k T hT X
  exact ⟨t, a1, o, b1, b2, b3, b4, b5, h5, h6, ⟨h7, h8⟩, L, hF.2.2, hL⟩
theorem gj_ret {t : FieldType} {a : Int} (hd : decode M.2.1 pc = .ok (.ireturn, 1)) (hr : M.2.2.2.1 = some t) (ht : ztag t = 0 ∧ zgt t = true) (ha : zok g (zi a) → zokt g t a) : Gj g M lv pc ls [zi a] σ (0, zi a, σ) := by
  intro p e s m args below meth c H locs lc σs ⟨h1, ⟨hx, hb, hml, hret, hlk, hown, hnm, hW, hh, hsz⟩, h3, h4, h5, h6, h7, h8, h9, h10, h11⟩
  have h2 := (znf (g := g) ht.2 (ha (zhd h11))).1
  rw [ht.1] at h2
  simp only [List.map_cons, List.map_nil]
  rw [zval_i] at h2 ⊢
  refine zend (out := (0, zi a, σ)) h5 h6 h7 h8 (W.zret hx hb (hret.trans hr) h2 (fun t ht hw => ⟨?_, by rw [ht]; exact h3, hw⟩) h4 hd (hlocks := hlk))
  simp only [zout, if_true, zval_i]
  exact ⟨by simp, fun _ => zhd h11⟩
theorem gj_lret {a : Int} (hd : decode M.2.1 pc = .ok (.lreturn, 1)) (hr : M.2.2.2.1 = some .long) : Gj g M lv pc ls [zj a] σ (0, zj a, σ) := by
  intro p e s m args below meth c H locs lc σs ⟨h1, ⟨hx, hb, hml, hret, hlk, hown, hnm, hW, hh, hsz⟩, h3, h4, h5, h6, h7, h8, h9, h10, h11⟩
  simp only [List.map_cons, List.map_nil]
  rw [zval_j]
  refine zend (out := (0, zj a, σ)) h5 h6 h7 h8 (W.lret hx hb (hret.trans hr) (fun t ht hw => ⟨?_, by rw [ht]; exact h3, hw⟩) h4 hd (hlocks := hlk))
  simp only [zout, if_true, zval_j]
  exact ⟨by simp, fun _ => zhd h11⟩
theorem gj_aret {t : FieldType} {a : Int} (hd : decode M.2.1 pc = .ok (.areturn, 1)) (hr : M.2.2.2.1 = some t) (ht : (∃ n, t = .object n) ∨ ∃ u, t = .array u) : Gj g M lv pc ls [zr a] σ (0, zr a, σ) := by
  intro p e s m args below meth c H locs lc σs ⟨h1, ⟨hx, hb, hml, hret, hlk, hown, hnm, hW, hh, hsz⟩, h3, h4, h5, h6, h7, h8, h9, h10, h11⟩
  simp only [List.map_cons, List.map_nil]
  rw [zval_r]
  refine zend (out := (0, zr a, σ)) h5 h6 h7 h8 (W.aret hx hb (hret.trans hr) ht (zref_or g a) (fun t ht hw => ⟨?_, by rw [ht]; exact h3, hw⟩) h4 hd (hlocks := hlk))
  simp only [zout, if_true, zval_r]
  exact ⟨by simp, fun _ => zhd h11⟩
theorem gj_vret (hd : decode M.2.1 pc = .ok (.return_, 1)) (hr : M.2.2.2.1 = none) : Gj g M lv pc ls [] σ (0, (3, 0), σ) := by
  intro p e s m args below meth c H locs lc σs ⟨h1, ⟨hx, hb, hml, hret, hlk, hown, hnm, hW, hh, hsz⟩, h3, h4, h5, h6, h7, h8, h9, h10, h11⟩
  refine zend (out := (0, (3, 0), σ)) h5 h6 h7 h8 (W.vret hx hb (hret.trans hr) (fun t ht hw => ⟨?_, by rw [ht]; exact h3, hw⟩) h4 hd (hlocks := hlk))
  simp [zout]
/-- a contract from the walk of its body -/
theorem cj_of {as : List zV} {maxL : Nat} (hy : plainName M.1.cls = true) (hm : M.2.2.1 = maxL) (hL : (lg_sl (as.map (zval g))).length ≤ maxL) {ls : List (Nat × zV)} (hls : lv_args 0 (as.map (zval g)) = ls.map fun q => (q.1, zval g q.2)) (hlo : (∀ v ∈ as, zok g v) → ∀ q ∈ ls, zok g q.2)
    (k : Gj g M lv 0 ls [] σ out) : Cj g lv M as σ out := by
  intro hg hok
  refine MetFree.of_bodyS (code := M.2.1) (maxLocals := M.2.2.1) (ret := M.2.2.2.1) hy ?_ ?_
  · intro args s m h hn
    have hw := atoms_spec (ws := [zcodeW M]) h _ List.mem_cons_self
    unfold zcodeW at hw
    split at hw
    · obtain ⟨meth, c, h1, h2, h3, h4, h5, h6, -, -⟩ := Cond.code_spec hn hw
      exact ⟨meth, c, h1, h2, h3, h4, h5, h6⟩
    · obtain ⟨m', meth, c, h0, h1, h2, h3, h4, -, h5, h6, -⟩ := Cond.codeWith_spec hw
      cases hn.symm.trans h0
      exact ⟨meth, c, h1, h2, h3, h4, h5, h6⟩
  · intro p e s m args below meth c s₁ B hml hP _
    obtain ⟨rfl, hW, hH, hz1, hz2⟩ := hP
    have hh0 : s₁.heap = s.heap := by rw [B.state]; rfl
    have hcode : s.vm.method? m = some meth := B.method
    have htab : c.exceptionTable.toList.map (fun h => (h.startPc, h.endPc, h.handlerPc, h.catchType)) = M.2.2.2.2 := by
      have hw := atoms_spec (ws := [zcodeW M]) B.pre _ List.mem_cons_self
      have X := Stand.of_body B
      unfold zcodeW at hw
      split at hw
      · rename_i he
        obtain ⟨meth', c', h1, h2, h3, h4, h5, h6, h7, -⟩ := Cond.code_spec B.named hw
        cases hcode.symm.trans h1
        cases X.code.symm.trans h2
        rw [he]
        simp only [List.map_eq_nil_iff]
        simpa using h7
      · obtain ⟨m', meth', c', h0, h1, h2, h3, h4, h7, h5, h6, -⟩ := Cond.codeWith_spec hw
        cases B.named.symm.trans h0
        cases hcode.symm.trans h1
        cases X.code.symm.trans h2
        exact h7
    have hl := lv_entry (as.map (zval g)) (n := M.2.2.1) (by rw [hm]; exact hL)
    rw [hls] at hl
    have K := k p e s m (as.map (zval g)).toArray below meth c s.heap [] _ σ ⟨hg, ⟨B.exec, B.bytes, hml, B.returns, B.notSynchronized, findClass_of_methodNamed B.named, (name_of_methodNamed B.named B.method).1, hW, htab, hH⟩, hH, (fun _ h => by cases h), Nat.le_refl _, Nat.le_refl _, hz1, hz2, hl, hlo hok, (fun _ h => by cases h)⟩
    rw [Nat.sub_self, Nat.sub_self] at K
    obtain ⟨t, a1, o, b1, b2, b3⟩ := K s₁ hh0 (Stand.of_body B)
    refine ⟨t, o, ?_, b1, b2, b3⟩
    rw [lg_entry_eq]
    exact a1
end R3

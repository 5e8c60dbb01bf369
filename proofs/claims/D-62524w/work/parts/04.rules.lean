section R1
variable {g : zG} {M : zT} {lv pc : Nat} {ls : List (Nat × zV)} {st : List zV} {σ : zM} {out : zO}
/-- a step that leaves heap and locals as they are -/
theorem gj_pure {pc' : Nat} {st' : List zV} (hok : zgok g → (∀ v ∈ st, zok g v) → (∀ q ∈ ls, zok g q.2) → ∀ v ∈ st', zok g v)
    (h : ∀ {p : Program} {l : Launch} {e : Env} {R : Room} {s : State} {m : MethodId} {args : Array Value} {below : List Frame} {meth : Method} {c : Code} {H : Heap} {locs : List Loc} {cells slots : Nat} {Q : State → Prop} {lc : Array Slot}, p.tables.exec = Jvm.exec → c.code = M.2.1 → s.vm.findClass M.1.cls = some m.cls → (zs g).WarmedH s.vm → zgok g → lv_has lc M.2.2.1 (ls.map fun q => (q.1, zval g q.2)) → (∀ v ∈ st, zok g v) → W p l e R s m args below meth c H locs cells slots Q (F0 m pc' lc (st'.map (zval g))) → W p l e R s m args below meth c H locs cells slots Q (F0 m pc lc (st.map (zval g))))
    (k : Gj g M lv pc' ls st' σ out) : Gj g M lv pc ls st σ out := by
  intro p e s m args below meth c H locs lc σs ⟨h1, h2, h3, h4, h5, h6, h7, h8, h9, h10, h11⟩
  have hc := h2
  obtain ⟨hx, hb, hml, hr, hlk, hown, hnm, hW, hh, hsz⟩ := hc
  exact h hx hb hown hW h1 h9 h11 (k p e s m args below meth c H locs lc σs ⟨h1, h2, h3, h4, h5, h6, h7, h8, h9, h10, hok h1 h11 h10⟩)
theorem zmem {P : zV → Prop} {a : zV} {l : List zV} (ha : P a) (hl : ∀ v ∈ l, P v) : ∀ v ∈ a :: l, P v := fun v hv => by
  rcases List.mem_cons.mp hv with rfl | hv
  · exact ha
  · exact hl v hv
theorem ztl {P : zV → Prop} {a : zV} {l : List zV} (h : ∀ v ∈ a :: l, P v) : ∀ v ∈ l, P v := fun v hv => h v (List.mem_cons_of_mem _ hv)
theorem zhd {P : zV → Prop} {a : zV} {l : List zV} (h : ∀ v ∈ a :: l, P v) : P a := h a List.mem_cons_self
theorem gj_iconst {n : Int} (hd : decode M.2.1 pc = .ok (.iconst n, 1)) (hn : -2147483648 ≤ n ∧ n < 2147483648) (k : Gj g M lv (pc + 1) ls (zi n :: st) σ out) : Gj g M lv pc ls st σ out :=
  gj_pure (fun _ h _ => zmem (by simpa [zok] using hn) h)
    (fun hx hb _ _ _ _ _ k => lv_iconst hx hb hd rfl (by simpa [zval_i] using k)) k
theorem gj_bipush {n : Int} (hd : decode M.2.1 pc = .ok (.bipush n, 2)) (hn : (Int8.ofInt n).toInt32 = Int32.ofInt n ∧ -2147483648 ≤ n ∧ n < 2147483648) (k : Gj g M lv (pc + 2) ls (zi n :: st) σ out) : Gj g M lv pc ls st σ out :=
  gj_pure (fun _ h _ => zmem (by simpa [zok] using hn.2) h)
    (fun hx hb _ _ _ _ _ k => lv_bipush hx hb hd hn.1 (by simpa [zval_i] using k)) k
theorem gj_sipush {n : Int} (hd : decode M.2.1 pc = .ok (.sipush n, 3)) (hn : (Int16.ofInt n).toInt32 = Int32.ofInt n ∧ -2147483648 ≤ n ∧ n < 2147483648) (k : Gj g M lv (pc + 3) ls (zi n :: st) σ out) : Gj g M lv pc ls st σ out :=
  gj_pure (fun _ h _ => zmem (by simpa [zok] using hn.2) h)
    (fun hx hb _ _ _ _ _ k => lv_sipush hx hb hd hn.1 (by simpa [zval_i] using k)) k
theorem gj_lconst0 (hd : decode M.2.1 pc = .ok (.lconst 0, 1)) (k : Gj g M lv (pc + 1) ls (zj 0 :: st) σ out) : Gj g M lv pc ls st σ out :=
  gj_pure (fun _ h _ => zmem (by simp [zok]) h) (fun hx hb _ _ _ _ _ k => lv_lconst hx hb hd rfl (by simpa [zval_j] using k)) k
theorem gj_lconst1 (hd : decode M.2.1 pc = .ok (.lconst 1, 1)) (k : Gj g M lv (pc + 1) ls (zj 1 :: st) σ out) : Gj g M lv pc ls st σ out :=
  gj_pure (fun _ h _ => zmem (by simp [zok]) h) (fun hx hb _ _ _ _ _ k => lv_lconst hx hb hd rfl (by simpa [zval_j] using k)) k
theorem gj_null (hd : decode M.2.1 pc = .ok (.aconst_null, 1)) (k : Gj g M lv (pc + 1) ls (zr (-1) :: st) σ out) : Gj g M lv pc ls st σ out :=
  gj_pure (fun _ h _ => zmem (by simp [zok, zokr]) h) (fun hx hb _ _ _ _ _ k => lv_null hx hb hd (by simpa [zval_r, zref] using k)) k
/-- longs -/
def jadd (a b : Int) : Int := (Int64.ofInt a + Int64.ofInt b).toInt
def jsub (a b : Int) : Int := (Int64.ofInt a - Int64.ofInt b).toInt
def jmul (a b : Int) : Int := (Int64.ofInt a * Int64.ofInt b).toInt
def jand (a b : Int) : Int := (Int64.ofInt a &&& Int64.ofInt b).toInt
def jor (a b : Int) : Int := (Int64.ofInt a ||| Int64.ofInt b).toInt
def jxor (a b : Int) : Int := (Int64.ofInt a ^^^ Int64.ofInt b).toInt
def zshl (a b : Int) : Int := (Int32.ofInt a <<< (Int32.ofInt b &&& 31)).toInt
def zshr (a b : Int) : Int := (Int32.ofInt a >>> (Int32.ofInt b &&& 31)).toInt
def jshl (a b : Int) : Int := (Int64.ofInt a <<< ((Int32.ofInt b).toInt64 &&& 63)).toInt
def jshr (a b : Int) : Int := (Int64.ofInt a >>> ((Int32.ofInt b).toInt64 &&& 63)).toInt
def jushr (a b : Int) : Int := ((Int64.ofInt a).toUInt64 >>> ((Int32.ofInt b).toInt64.toUInt64 &&& Int64.toUInt64 63)).toInt64.toInt
def zl2i (a : Int) : Int := (Int64.ofInt a).toInt32.toInt
def zi2c (a : Int) : Int := ((Int32.ofInt a).toUInt32 % 65536).toInt32.toInt
def zi2b (a : Int) : Int := (Int32.ofInt a).toInt8.toInt32.toInt
def zlcmp (a b : Int) : Int := if b < a then 1 else if a = b then 0 else -1
theorem gj_iadd {a b : Int} (hd : decode M.2.1 pc = .ok (.iadd, 1)) (k : Gj g M lv (pc + 1) ls (zi (zadd a b) :: st) σ out) : Gj g M lv pc ls (zi b :: zi a :: st) σ out :=
  gj_pure (fun _ h _ => zmem (zok_int g _) (ztl (ztl h))) (fun hx hb _ _ _ _ _ k => by
    simp only [List.map_cons, zval_i] at k ⊢
    refine lv_iadd hx hb hd ?_
    simpa only [zadd, Int32.ofInt_toInt] using k) k
theorem gj_isub {a b : Int} (hd : decode M.2.1 pc = .ok (.isub, 1)) (k : Gj g M lv (pc + 1) ls (zi (zsub a b) :: st) σ out) : Gj g M lv pc ls (zi b :: zi a :: st) σ out :=
  gj_pure (fun _ h _ => zmem (zok_int g _) (ztl (ztl h))) (fun hx hb _ _ _ _ _ k => by
    simp only [List.map_cons, zval_i] at k ⊢
    refine lv_isub hx hb hd ?_
    simpa only [zsub, Int32.ofInt_toInt] using k) k
theorem gj_imul {a b : Int} (hd : decode M.2.1 pc = .ok (.imul, 1)) (k : Gj g M lv (pc + 1) ls (zi (zmul a b) :: st) σ out) : Gj g M lv pc ls (zi b :: zi a :: st) σ out :=
  gj_pure (fun _ h _ => zmem (zok_int g _) (ztl (ztl h))) (fun hx hb _ _ _ _ _ k => by
    simp only [List.map_cons, zval_i] at k ⊢
    refine lv_imul hx hb hd ?_
    simpa only [zmul, Int32.ofInt_toInt] using k) k
theorem gj_iand {a b : Int} (hd : decode M.2.1 pc = .ok (.iand, 1)) (k : Gj g M lv (pc + 1) ls (zi (zand a b) :: st) σ out) : Gj g M lv pc ls (zi b :: zi a :: st) σ out :=
  gj_pure (fun _ h _ => zmem (zok_int g _) (ztl (ztl h))) (fun hx hb _ _ _ _ _ k => by
    simp only [List.map_cons, zval_i] at k ⊢
    refine lv_iand hx hb hd ?_
    simpa only [zand, Int32.ofInt_toInt] using k) k
theorem gj_ior {a b : Int} (hd : decode M.2.1 pc = .ok (.ior, 1)) (k : Gj g M lv (pc + 1) ls (zi (zor a b) :: st) σ out) : Gj g M lv pc ls (zi b :: zi a :: st) σ out :=
  gj_pure (fun _ h _ => zmem (zok_int g _) (ztl (ztl h))) (fun hx hb _ _ _ _ _ k => by
    simp only [List.map_cons, zval_i] at k ⊢
    refine lv_ior hx hb hd ?_
    simpa only [zor, Int32.ofInt_toInt] using k) k
theorem gj_ixor {a b : Int} (hd : decode M.2.1 pc = .ok (.ixor, 1)) (k : Gj g M lv (pc + 1) ls (zi (zxor a b) :: st) σ out) : Gj g M lv pc ls (zi b :: zi a :: st) σ out :=
  gj_pure (fun _ h _ => zmem (zok_int g _) (ztl (ztl h))) (fun hx hb _ _ _ _ _ k => by
    simp only [List.map_cons, zval_i] at k ⊢
    refine lv_ixor hx hb hd ?_
    simpa only [zxor, Int32.ofInt_toInt] using k) k
theorem gj_ishl {a b : Int} (hd : decode M.2.1 pc = .ok (.ishl, 1)) (k : Gj g M lv (pc + 1) ls (zi (zshl a b) :: st) σ out) : Gj g M lv pc ls (zi b :: zi a :: st) σ out :=
  gj_pure (fun _ h _ => zmem (zok_int g _) (ztl (ztl h))) (fun hx hb _ _ _ _ _ k => by
    simp only [List.map_cons, zval_i] at k ⊢
    refine lv_ishl hx hb hd ?_
    simpa only [zshl, Int32.ofInt_toInt] using k) k
theorem gj_ishr {a b : Int} (hd : decode M.2.1 pc = .ok (.ishr, 1)) (k : Gj g M lv (pc + 1) ls (zi (zshr a b) :: st) σ out) : Gj g M lv pc ls (zi b :: zi a :: st) σ out :=
  gj_pure (fun _ h _ => zmem (zok_int g _) (ztl (ztl h))) (fun hx hb _ _ _ _ _ k => by
    simp only [List.map_cons, zval_i] at k ⊢
    refine lv_ishr hx hb hd ?_
    simpa only [zshr, Int32.ofInt_toInt] using k) k
theorem gj_idiv {a b : Int} (hd : decode M.2.1 pc = .ok (.idiv, 1)) (hn : b ≠ 0) (k : Gj g M lv (pc + 1) ls (zi (zdiv a b) :: st) σ out) : Gj g M lv pc ls (zi b :: zi a :: st) σ out :=
  gj_pure (fun _ h _ => zmem (zok_int g _) (ztl (ztl h))) (fun hx hb _ _ _ _ hv k => by
    simp only [List.map_cons, zval_i] at k ⊢
    refine lv_idiv hx hb hd (fun e => hn ?_) ?_
    · rw [← zok_i (zhd hv), e]; rfl
    · simpa only [zdiv, Int32.ofInt_toInt] using k) k
theorem gj_irem {a b : Int} (hd : decode M.2.1 pc = .ok (.irem, 1)) (hn : b ≠ 0) (k : Gj g M lv (pc + 1) ls (zi (zrem a b) :: st) σ out) : Gj g M lv pc ls (zi b :: zi a :: st) σ out :=
  gj_pure (fun _ h _ => zmem (zok_int g _) (ztl (ztl h))) (fun hx hb _ _ _ _ hv k => by
    simp only [List.map_cons, zval_i] at k ⊢
    refine lv_irem hx hb hd (fun e => hn ?_) ?_
    · rw [← zok_i (zhd hv), e]; rfl
    · simpa only [zrem, Int32.ofInt_toInt] using k) k
theorem gj_ineg {a : Int} (hd : decode M.2.1 pc = .ok (.ineg, 1)) (k : Gj g M lv (pc + 1) ls (zi (zneg a) :: st) σ out) : Gj g M lv pc ls (zi a :: st) σ out :=
  gj_pure (fun _ h _ => zmem (zok_int g _) (ztl h)) (fun hx hb _ _ _ _ _ k => by
    simp only [List.map_cons, zval_i] at k ⊢
    refine lv_ineg hx hb hd ?_
    simpa only [zneg, Int32.ofInt_toInt] using k) k
theorem gj_ladd {a b : Int} (hd : decode M.2.1 pc = .ok (.ladd, 1)) (k : Gj g M lv (pc + 1) ls (zj (jadd a b) :: st) σ out) : Gj g M lv pc ls (zj b :: zj a :: st) σ out :=
  gj_pure (fun _ h _ => zmem (zok_long g _) (ztl (ztl h))) (fun hx hb _ _ _ _ _ k => by
    simp only [List.map_cons, zval_j] at k ⊢
    refine lv_ladd hx hb hd ?_
    simpa only [jadd, Int64.ofInt_toInt] using k) k
theorem gj_lsub {a b : Int} (hd : decode M.2.1 pc = .ok (.lsub, 1)) (k : Gj g M lv (pc + 1) ls (zj (jsub a b) :: st) σ out) : Gj g M lv pc ls (zj b :: zj a :: st) σ out :=
  gj_pure (fun _ h _ => zmem (zok_long g _) (ztl (ztl h))) (fun hx hb _ _ _ _ _ k => by
    simp only [List.map_cons, zval_j] at k ⊢
    refine lv_lsub hx hb hd ?_
    simpa only [jsub, Int64.ofInt_toInt] using k) k
theorem gj_lmul {a b : Int} (hd : decode M.2.1 pc = .ok (.lmul, 1)) (k : Gj g M lv (pc + 1) ls (zj (jmul a b) :: st) σ out) : Gj g M lv pc ls (zj b :: zj a :: st) σ out :=
  gj_pure (fun _ h _ => zmem (zok_long g _) (ztl (ztl h))) (fun hx hb _ _ _ _ _ k => by
    simp only [List.map_cons, zval_j] at k ⊢
    refine lv_lmul hx hb hd ?_
    simpa only [jmul, Int64.ofInt_toInt] using k) k
theorem gj_land {a b : Int} (hd : decode M.2.1 pc = .ok (.land, 1)) (k : Gj g M lv (pc + 1) ls (zj (jand a b) :: st) σ out) : Gj g M lv pc ls (zj b :: zj a :: st) σ out :=
  gj_pure (fun _ h _ => zmem (zok_long g _) (ztl (ztl h))) (fun hx hb _ _ _ _ _ k => by
    simp only [List.map_cons, zval_j] at k ⊢
    refine lv_land hx hb hd ?_
    simpa only [jand, Int64.ofInt_toInt] using k) k
theorem gj_lor {a b : Int} (hd : decode M.2.1 pc = .ok (.lor, 1)) (k : Gj g M lv (pc + 1) ls (zj (jor a b) :: st) σ out) : Gj g M lv pc ls (zj b :: zj a :: st) σ out :=
  gj_pure (fun _ h _ => zmem (zok_long g _) (ztl (ztl h))) (fun hx hb _ _ _ _ _ k => by
    simp only [List.map_cons, zval_j] at k ⊢
    refine lv_lor hx hb hd ?_
    simpa only [jor, Int64.ofInt_toInt] using k) k
theorem gj_lxor {a b : Int} (hd : decode M.2.1 pc = .ok (.lxor, 1)) (k : Gj g M lv (pc + 1) ls (zj (jxor a b) :: st) σ out) : Gj g M lv pc ls (zj b :: zj a :: st) σ out :=
  gj_pure (fun _ h _ => zmem (zok_long g _) (ztl (ztl h))) (fun hx hb _ _ _ _ _ k => by
    simp only [List.map_cons, zval_j] at k ⊢
    refine lv_lxor hx hb hd ?_
    simpa only [jxor, Int64.ofInt_toInt] using k) k
theorem gj_lshl {a b : Int} (hd : decode M.2.1 pc = .ok (.lshl, 1)) (k : Gj g M lv (pc + 1) ls (zj (jshl a b) :: st) σ out) : Gj g M lv pc ls (zi b :: zj a :: st) σ out :=
  gj_pure (fun _ h _ => zmem (zok_long g _) (ztl (ztl h))) (fun hx hb _ _ _ _ _ k => by
    simp only [List.map_cons, zval_j, zval_i] at k ⊢
    refine lv_lshl hx hb hd rfl ?_
    simpa only [jshl, Int64.ofInt_toInt] using k) k
theorem gj_lshr {a b : Int} (hd : decode M.2.1 pc = .ok (.lshr, 1)) (k : Gj g M lv (pc + 1) ls (zj (jshr a b) :: st) σ out) : Gj g M lv pc ls (zi b :: zj a :: st) σ out :=
  gj_pure (fun _ h _ => zmem (zok_long g _) (ztl (ztl h))) (fun hx hb _ _ _ _ _ k => by
    simp only [List.map_cons, zval_j, zval_i] at k ⊢
    refine lv_lshr hx hb hd rfl ?_
    simpa only [jshr, Int64.ofInt_toInt] using k) k
theorem gj_lushr {a b : Int} (hd : decode M.2.1 pc = .ok (.lushr, 1)) (k : Gj g M lv (pc + 1) ls (zj (jushr a b) :: st) σ out) : Gj g M lv pc ls (zi b :: zj a :: st) σ out :=
  gj_pure (fun _ h _ => zmem (zok_long g _) (ztl (ztl h))) (fun hx hb _ _ _ _ _ k => by
    simp only [List.map_cons, zval_j, zval_i] at k ⊢
    refine lv_lushr hx hb hd rfl ?_
    simpa only [jushr, Int64.ofInt_toInt] using k) k
theorem gj_i2l {a : Int} (hd : decode M.2.1 pc = .ok (.i2l, 1)) (k : Gj g M lv (pc + 1) ls (zj a :: st) σ out) : Gj g M lv pc ls (zi a :: st) σ out :=
  gj_pure (fun _ h _ => zmem (by have := zhd h; simp only [zok, if_true] at this; simp only [zok]; constructor <;> omega) (ztl h)) (fun hx hb _ _ _ _ hv k => by
    have e := zok_i (zhd hv)
    simp only [List.map_cons, zval_i, zval_j] at k ⊢
    refine lv_i2l hx hb hd (v := Int64.ofInt a) ?_ k
    rw [← e, Int32.ofInt_toInt]
    rw [← Int64.ofInt_toInt (Int32.toInt64 _), Int32.toInt_toInt64]) k
theorem gj_l2i {a : Int} (hd : decode M.2.1 pc = .ok (.l2i, 1)) (k : Gj g M lv (pc + 1) ls (zi (zl2i a) :: st) σ out) : Gj g M lv pc ls (zj a :: st) σ out :=
  gj_pure (fun _ h _ => zmem (zok_int g _) (ztl h)) (fun hx hb _ _ _ _ _ k => by
    simp only [List.map_cons, zval_i, zval_j] at k ⊢
    refine lv_l2i hx hb hd rfl ?_
    simpa only [zl2i, Int32.ofInt_toInt] using k) k
theorem gj_i2c {a : Int} (hd : decode M.2.1 pc = .ok (.i2c, 1)) (k : Gj g M lv (pc + 1) ls (zi (zi2c a) :: st) σ out) : Gj g M lv pc ls (zi a :: st) σ out :=
  gj_pure (fun _ h _ => zmem (zok_int g _) (ztl h)) (fun hx hb _ _ _ _ _ k => by
    simp only [List.map_cons, zval_i] at k ⊢
    refine lv_i2c hx hb hd rfl ?_
    simpa only [zi2c, Int32.ofInt_toInt] using k) k
theorem gj_i2b {a : Int} (hd : decode M.2.1 pc = .ok (.i2b, 1)) (k : Gj g M lv (pc + 1) ls (zi (zi2b a) :: st) σ out) : Gj g M lv pc ls (zi a :: st) σ out :=
  gj_pure (fun _ h _ => zmem (zok_int g _) (ztl h)) (fun hx hb _ _ _ _ _ k => by
    simp only [List.map_cons, zval_i] at k ⊢
    refine lv_i2b hx hb hd rfl ?_
    simpa only [zi2b, Int32.ofInt_toInt] using k) k
theorem zlcmp_eq {x y : Int64} : Int32.ofInt (zlcmp x.toInt y.toInt) = lg_cmp x y := by
  unfold zlcmp lg_cmp
  simp only [gt_iff_lt, Int64.lt_iff_toInt_lt, ← Int64.toInt_inj]
  split
  · rfl
  · split <;> rfl
theorem gj_lcmp {a b : Int} (hd : decode M.2.1 pc = .ok (.lcmp, 1)) (k : Gj g M lv (pc + 1) ls (zi (zlcmp a b) :: st) σ out) : Gj g M lv pc ls (zj b :: zj a :: st) σ out :=
  gj_pure (fun _ h _ => zmem (by unfold zlcmp; simp only [zok, if_true]; split; constructor <;> omega; split <;> constructor <;> omega) (ztl (ztl h))) (fun hx hb _ _ _ _ hv k => by
    have e1 := zok_j (zhd hv)
    have e2 := zok_j (zhd (ztl hv))
    simp only [List.map_cons, zval_i, zval_j] at k ⊢
    refine W.lcmp hx hb hd ?_
    rw [← zlcmp_eq, e1, e2]
    exact k) k
/-- the stack -/
theorem zcat (g : zG) (v : zV) : (zval g v).category = if v.1 = 1 then 2 else 1 := by
  obtain ⟨t, a⟩ := v
  unfold zval
  by_cases h0 : t = 0
  · simp [h0, Value.category]
  · by_cases h1 : t = 1
    · simp [h1, Value.category]
    · simp only [h0, h1, if_false]
      have hc : ∀ w : Value, (w = .null ∨ ∃ x, w = .ref x) → w.category = 1 := by
        rintro w (h | ⟨x, h⟩) <;> rw [h] <;> rfl
      refine hc _ ?_
      split
      · unfold zfm
        split
        · exact Or.inl rfl
        · exact Or.inr ⟨_, rfl⟩
      · unfold zref
        split
        · exact Or.inl rfl
        · split
          · exact Or.inr ⟨_, rfl⟩
          · exact Or.inr ⟨_, rfl⟩
theorem zcat1 (g : zG) {v : zV} (h : (v.1 == 1) = false) : (zval g v).category = 1 := by
  rw [zcat, if_neg (by simpa using h)]
theorem gj_dup {v : zV} (hd : decode M.2.1 pc = .ok (.dup, 1)) (h1 : (v.1 == 1) = false) (k : Gj g M lv (pc + 1) ls (v :: v :: st) σ out) : Gj g M lv pc ls (v :: st) σ out :=
  gj_pure (fun _ h _ => zmem (zhd h) h) (fun hx hb _ _ _ _ _ k => lv_dup hx hb hd (zcat1 g h1) k) k
theorem gj_pop {v : zV} (hd : decode M.2.1 pc = .ok (.pop, 1)) (h1 : (v.1 == 1) = false) (k : Gj g M lv (pc + 1) ls st σ out) : Gj g M lv pc ls (v :: st) σ out :=
  gj_pure (fun _ h _ => ztl h) (fun hx hb _ _ _ _ _ k => lv_pop hx hb hd (zcat1 g h1) k) k
theorem gj_dup_x1 {v w : zV} (hd : decode M.2.1 pc = .ok (.dup_x1, 1)) (h1 : (v.1 == 1) = false) (h2 : (w.1 == 1) = false) (k : Gj g M lv (pc + 1) ls (v :: w :: v :: st) σ out) : Gj g M lv pc ls (v :: w :: st) σ out :=
  gj_pure (fun _ h _ => zmem (zhd h) (zmem (zhd (ztl h)) (zmem (zhd h) (ztl (ztl h))))) (fun hx hb _ _ _ _ _ k => lv_dup_x1 hx hb hd (zcat1 g h1) (zcat1 g h2) k) k
theorem gj_dup2 {v w : zV} (hd : decode M.2.1 pc = .ok (.dup2, 1)) (h1 : (v.1 == 1) = false) (h2 : (w.1 == 1) = false) (k : Gj g M lv (pc + 1) ls (v :: w :: v :: w :: st) σ out) : Gj g M lv pc ls (v :: w :: st) σ out :=
  gj_pure (fun _ h _ => zmem (zhd h) (zmem (zhd (ztl h)) h)) (fun hx hb _ _ _ _ _ k => lv_dup2_11 hx hb hd (zcat1 g h1) (zcat1 g h2) k) k
theorem gj_goto {off : Int} (tgt : Nat) (hd : decode M.2.1 pc = .ok (.goto off, 3)) (ht : (pc : Int) + off = (tgt : Int)) (k : Gj g M lv tgt ls st σ out) : Gj g M lv pc ls st σ out :=
  gj_pure (fun _ h _ => h) (fun hx hb _ _ _ _ _ k => lv_goto hx hb hd ht k) k
/-- fewer locals -/
theorem gj_sub {ls' : List (Nat × zV)} (ks : List Nat) (h : ks.filterMap (fun k => ls[k]?) = ls') (k : Gj g M lv pc ls' st σ out) : Gj g M lv pc ls st σ out := by
  intro p e s m args below meth c H locs lc σs ⟨h1, h2, h3, h4, h5, h6, h7, h8, h9, h10, h11⟩
  have hs : ∀ q ∈ ls', q ∈ ls := fun q hq => by
    rw [← h] at hq
    obtain ⟨i, -, hi⟩ := List.mem_filterMap.mp hq
    exact List.mem_of_getElem? hi
  refine k p e s m args below meth c H locs lc σs ⟨h1, h2, h3, h4, h5, h6, h7, h8, ⟨h9.1, h9.2.1, fun q hq => ?_⟩, fun q hq => h10 q (hs q hq), h11⟩
  obtain ⟨r, hr, rfl⟩ := List.mem_map.mp hq
  exact h9.2.2 _ (List.mem_map.mpr ⟨r, hs r hr, rfl⟩)
theorem zlc {lc : Array Slot} {n k i : Nat} {v : zV} (h : lv_has lc n (ls.map fun q => (q.1, zval g q.2))) (hk : ls[k]? = some (i, v)) : lc[i]? = some (.val (zval g v)) :=
  lv_at h k (by rw [List.getElem?_map, hk]; rfl)
theorem zlk {k i : Nat} {v : zV} (hk : ls[k]? = some (i, v)) (h : ∀ q ∈ ls, zok g q.2) : zok g v := h _ (List.mem_of_getElem? hk)
theorem zref_or (g : zG) (a : Int) : zref g a = .null ∨ ∃ x, zref g a = .ref x := by
  unfold zref
  split
  · exact Or.inl rfl
  · split
    · exact Or.inr ⟨_, rfl⟩
    · exact Or.inr ⟨_, rfl⟩
theorem gj_iload {i : Nat} (k : Nat) {a : Int} (hd : decode M.2.1 pc = .ok (.iload i, 2)) (hk : ls[k]? = some (i, zi a)) (kk : Gj g M lv (pc + 2) ls (zi a :: st) σ out) : Gj g M lv pc ls st σ out :=
  gj_pure (fun _ h h2 => zmem (zlk hk h2) h) (fun hx hb _ _ _ hl _ k => lv_iload hx hb hd (by rw [zlc hl hk, zval_i]) (by simpa [zval_i] using k)) kk
theorem gj_iload_n {i : Fin 4} (k : Nat) {a : Int} (hd : decode M.2.1 pc = .ok (.iload_n i, 1)) (hk : ls[k]? = some ((i : Nat), zi a)) (kk : Gj g M lv (pc + 1) ls (zi a :: st) σ out) : Gj g M lv pc ls st σ out :=
  gj_pure (fun _ h h2 => zmem (zlk hk h2) h) (fun hx hb _ _ _ hl _ k => lv_iload_n hx hb hd rfl (by rw [zlc hl hk, zval_i]) (by simpa [zval_i] using k)) kk
theorem gj_lload {i : Nat} (k : Nat) {a : Int} (hd : decode M.2.1 pc = .ok (.lload i, 2)) (hk : ls[k]? = some (i, zj a)) (kk : Gj g M lv (pc + 2) ls (zj a :: st) σ out) : Gj g M lv pc ls st σ out :=
  gj_pure (fun _ h h2 => zmem (zlk hk h2) h) (fun hx hb _ _ _ hl _ k => lv_lload hx hb hd (by rw [zlc hl hk, zval_j]) (by simpa [zval_j] using k)) kk
theorem gj_lload_n {i : Fin 4} (k : Nat) {a : Int} (hd : decode M.2.1 pc = .ok (.lload_n i, 1)) (hk : ls[k]? = some ((i : Nat), zj a)) (kk : Gj g M lv (pc + 1) ls (zj a :: st) σ out) : Gj g M lv pc ls st σ out :=
  gj_pure (fun _ h h2 => zmem (zlk hk h2) h) (fun hx hb _ _ _ hl _ k => lv_lload_n hx hb hd rfl (by rw [zlc hl hk, zval_j]) (by simpa [zval_j] using k)) kk
theorem gj_aload {i : Nat} (k : Nat) {a : Int} (hd : decode M.2.1 pc = .ok (.aload i, 2)) (hk : ls[k]? = some (i, zr a)) (kk : Gj g M lv (pc + 2) ls (zr a :: st) σ out) : Gj g M lv pc ls st σ out :=
  gj_pure (fun _ h h2 => zmem (zlk hk h2) h) (fun hx hb _ _ _ hl _ k => by
    have e := zlc hl hk
    rw [zval_r] at e
    simp only [List.map_cons, zval_r] at k
    rcases zref_or g a with h | ⟨x, h⟩
    · rw [h] at e k; exact lv_aloadN hx hb hd e k
    · rw [h] at e k; exact lv_aload hx hb hd e k) kk
theorem gj_aload_n {i : Fin 4} (k : Nat) {a : Int} (hd : decode M.2.1 pc = .ok (.aload_n i, 1)) (hk : ls[k]? = some ((i : Nat), zr a)) (kk : Gj g M lv (pc + 1) ls (zr a :: st) σ out) : Gj g M lv pc ls st σ out :=
  gj_pure (fun _ h h2 => zmem (zlk hk h2) h) (fun hx hb _ _ _ hl _ k => by
    have e := zlc hl hk
    rw [zval_r] at e
    simp only [List.map_cons, zval_r] at k
    rcases zref_or g a with h | ⟨x, h⟩
    · rw [h] at e k; exact lv_aload_nN hx hb hd rfl e k
    · rw [h] at e k; exact lv_aload_n hx hb hd rfl e k) kk
def zsto (i : Nat) (v : zV) (ls : List (Nat × zV)) : List (Nat × zV) := (i, v) :: ls.filter (fun q => !(q.1 == i) && !(q.1 + 1 == i && q.2.1 == 1))
def zstoL (i : Nat) (v : zV) (ls : List (Nat × zV)) : List (Nat × zV) := (i, v) :: ls.filter (fun q => !(q.1 == i) && (!(q.1 == i + 1) && !(q.1 + 1 == i && q.2.1 == 1)))
theorem zcatb (g : zG) (v : zV) : ((zval g v).category == 2) = (v.1 == 1) := by
  rw [zcat]
  by_cases h : v.1 = 1 <;> simp [h]
theorem zsto_map (g : zG) (i : Nat) (v : zV) (ls : List (Nat × zV)) : (i, zval g v) :: (ls.map fun q => (q.1, zval g q.2)).filter (fun q => !(q.1 == i) && !(q.1 + 1 == i && q.2.category == 2)) = (zsto i v ls).map fun q => (q.1, zval g q.2) := by
  simp only [zsto, List.map_cons, List.filter_map]
  congr 2
  apply List.filter_congr
  intro q _
  simp only [Function.comp, zcatb]
theorem zstoL_map (g : zG) (i : Nat) (v : zV) (ls : List (Nat × zV)) : (i, zval g v) :: (ls.map fun q => (q.1, zval g q.2)).filter (fun q => !(q.1 == i) && (!(q.1 == i + 1) && !(q.1 + 1 == i && q.2.category == 2))) = (zstoL i v ls).map fun q => (q.1, zval g q.2) := by
  simp only [zstoL, List.map_cons, List.filter_map]
  congr 2
  apply List.filter_congr
  intro q _
  simp only [Function.comp, zcatb]
theorem zsto_ok {i : Nat} {v : zV} (h : ∀ q ∈ ls, zok g q.2) (hv : zok g v) : ∀ q ∈ zsto i v ls, zok g q.2 := fun q hq => by
  rcases List.mem_cons.mp hq with rfl | hq
  · exact hv
  · exact h q (List.mem_filter.mp hq).1
theorem zstoL_ok {i : Nat} {v : zV} (h : ∀ q ∈ ls, zok g q.2) (hv : zok g v) : ∀ q ∈ zstoL i v ls, zok g q.2 := fun q hq => by
  rcases List.mem_cons.mp hq with rfl | hq
  · exact hv
  · exact h q (List.mem_filter.mp hq).1
/-- a step that changes the locals -/
theorem gj_loc {pc' : Nat} {ls' : List (Nat × zV)} {st' : List zV} (hok : (∀ v ∈ st, zok g v) → (∀ q ∈ ls, zok g q.2) → (∀ v ∈ st', zok g v) ∧ (∀ q ∈ ls', zok g q.2))
    (h : ∀ {p : Program} {l : Launch} {e : Env} {R : Room} {s : State} {m : MethodId} {args : Array Value} {below : List Frame} {meth : Method} {c : Code} {H : Heap} {locs : List Loc} {cells slots : Nat} {Q : State → Prop} {lc : Array Slot}, p.tables.exec = Jvm.exec → c.code = M.2.1 → lv_has lc M.2.2.1 (ls.map fun q => (q.1, zval g q.2)) → (∀ v ∈ st, zok g v) → (∀ lc' : Array Slot, lv_has lc' M.2.2.1 (ls'.map fun q => (q.1, zval g q.2)) → W p l e R s m args below meth c H locs cells slots Q (F0 m pc' lc' (st'.map (zval g)))) → W p l e R s m args below meth c H locs cells slots Q (F0 m pc lc (st.map (zval g))))
    (k : Gj g M lv pc' ls' st' σ out) : Gj g M lv pc ls st σ out := by
  intro p e s m args below meth c H locs lc σs ⟨h1, h2, h3, h4, h5, h6, h7, h8, h9, h10, h11⟩
  have hc := h2
  obtain ⟨hx, hb, hml, hr, hlk, hown, hnm, hW, hh, hsz⟩ := hc
  exact h hx hb h9 h11 (fun lc' hl' => k p e s m args below meth c H locs lc' σs ⟨h1, h2, h3, h4, h5, h6, h7, h8, hl', (hok h11 h10).2, (hok h11 h10).1⟩)
theorem gj_istore {i : Nat} {ls' : List (Nat × zV)} {a : Int} (hd : decode M.2.1 pc = .ok (.istore i, 2)) (hi : i < M.2.2.1) (hl : zsto i (zi a) ls = ls') (k : Gj g M lv (pc + 2) ls' st σ out) : Gj g M lv pc ls (zi a :: st) σ out :=
  gj_loc (fun h h2 => ⟨ztl h, hl ▸ zsto_ok h2 (zhd h)⟩) (fun hx hb hh _ kk => by
    simp only [List.map_cons, zval_i]
    exact lv_istore hx hb hd hh hi (by rw [← zval_i g a, zsto_map, hl]) kk) k
theorem gj_lstore {i : Nat} {ls' : List (Nat × zV)} {a : Int} (hd : decode M.2.1 pc = .ok (.lstore i, 2)) (hi : i + 1 < M.2.2.1) (hl : zstoL i (zj a) ls = ls') (k : Gj g M lv (pc + 2) ls' st σ out) : Gj g M lv pc ls (zj a :: st) σ out :=
  gj_loc (fun h h2 => ⟨ztl h, hl ▸ zstoL_ok h2 (zhd h)⟩) (fun hx hb hh _ kk => by
    simp only [List.map_cons, zval_j]
    exact lv_lstore hx hb hd hh hi (by rw [← zval_j g a, zstoL_map, hl]) kk) k
theorem gj_astore {i : Nat} {ls' : List (Nat × zV)} {a : Int} (hd : decode M.2.1 pc = .ok (.astore i, 2)) (hi : i < M.2.2.1) (hl : zsto i (zr a) ls = ls') (k : Gj g M lv (pc + 2) ls' st σ out) : Gj g M lv pc ls (zr a :: st) σ out :=
  gj_loc (fun h h2 => ⟨ztl h, hl ▸ zsto_ok h2 (zhd h)⟩) (fun hx hb hh _ kk => by
    simp only [List.map_cons, zval_r]
    rcases zref_or g a with h | ⟨x, h⟩
    · rw [h]; exact lv_astoreN hx hb hd hh hi (by rw [← h, ← zval_r g a, zsto_map, hl]) kk
    · rw [h]; exact lv_astore hx hb hd hh hi (by rw [← h, ← zval_r g a, zsto_map, hl]) kk) k
theorem gj_istore_n {i : Fin 4} {ls' : List (Nat × zV)} {a : Int} (hd : decode M.2.1 pc = .ok (.istore_n i, 1)) (hi : (i : Nat) < M.2.2.1) (hl : zsto (i : Nat) (zi a) ls = ls') (k : Gj g M lv (pc + 1) ls' st σ out) : Gj g M lv pc ls (zi a :: st) σ out :=
  gj_loc (fun h h2 => ⟨ztl h, hl ▸ zsto_ok h2 (zhd h)⟩) (fun hx hb hh _ kk => by
    simp only [List.map_cons, zval_i]
    exact lv_istore_n hx hb hd rfl hh hi (by rw [← zval_i g a, zsto_map, hl]) kk) k
theorem gj_lstore_n {i : Fin 4} {ls' : List (Nat × zV)} {a : Int} (hd : decode M.2.1 pc = .ok (.lstore_n i, 1)) (hi : (i : Nat) + 1 < M.2.2.1) (hl : zstoL (i : Nat) (zj a) ls = ls') (k : Gj g M lv (pc + 1) ls' st σ out) : Gj g M lv pc ls (zj a :: st) σ out :=
  gj_loc (fun h h2 => ⟨ztl h, hl ▸ zstoL_ok h2 (zhd h)⟩) (fun hx hb hh _ kk => by
    simp only [List.map_cons, zval_j]
    exact lv_lstore_n hx hb hd rfl hh hi (by rw [← zval_j g a, zstoL_map, hl]) kk) k
theorem gj_astore_n {i : Fin 4} {ls' : List (Nat × zV)} {a : Int} (hd : decode M.2.1 pc = .ok (.astore_n i, 1)) (hi : (i : Nat) < M.2.2.1) (hl : zsto (i : Nat) (zr a) ls = ls') (k : Gj g M lv (pc + 1) ls' st σ out) : Gj g M lv pc ls (zr a :: st) σ out :=
  gj_loc (fun h h2 => ⟨ztl h, hl ▸ zsto_ok h2 (zhd h)⟩) (fun hx hb hh _ kk => by
    simp only [List.map_cons, zval_r]
    rcases zref_or g a with h | ⟨x, h⟩
    · rw [h]; exact lv_astore_nN hx hb hd rfl hh hi (by rw [← h, ← zval_r g a, zsto_map, hl]) kk
    · rw [h]; exact lv_astore_n hx hb hd rfl hh hi (by rw [← h, ← zval_r g a, zsto_map, hl]) kk) k
theorem gj_iinc {i : Nat} {n : Int} {ls' : List (Nat × zV)} (k : Nat) {a : Int} (hd : decode M.2.1 pc = .ok (.iinc i n, 3)) (hk : ls[k]? = some (i, zi a)) (hi : i < M.2.2.1) (hl : zsto i (zi (zadd a n)) ls = ls') (kk : Gj g M lv (pc + 3) ls' st σ out) : Gj g M lv pc ls st σ out :=
  gj_loc (fun h h2 => ⟨h, hl ▸ zsto_ok h2 (zok_int g _)⟩) (fun hx hb hh _ kk => 
    lv_iinc hx hb hd hh (k := k) (x := Int32.ofInt a) (by rw [List.getElem?_map, hk]; simp [zval_i]) rfl hi (by rw [← zval_int g (Int32.ofInt a + Int32.ofInt n), zsto_map]; exact congrArg _ hl) kk) kk
end R1

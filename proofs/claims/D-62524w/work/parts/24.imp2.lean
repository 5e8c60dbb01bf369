set_option maxRecDepth 100000
/-! the rules of parts 22 and 23 with the function's equation ahead; the enum's ordinal; groups of methods that call each other -/
abbrev zq (a : Int) : zV := (4, a)
def zq23 (a : Int) : Bool := a == -23
theorem zq23E {a : Int} (h : zq23 a = true) : a = -23 := by simpa [zq23] using h
section Y7
variable {g : zG} {M M' : zT} {lv pc idx : Nat} {ls : List (Nat × zV)} {st : List zV} {σ : zM} {out : zO} {α : Type} {r : α}
theorem gb_acopy {k : Nat} {a0 sp a dp n : Int} {f : zM → Option α} (hk : k = 104 ∨ k = 105) (hlv : 1 ≤ lv) (hws : (st.map (fun v => if v.1 = 1 then 2 else 1)).sum ≤ 20)
    (hd : decode M.2.1 pc = .ok (.invokestatic idx, 3)) (q1 : Cond.methodLink M.1.cls idx arraycopyName ∈ lw_all) (q2 : Cond.native arraycopyName ∈ lw_all) (q3 : Cond.static arraycopyName ∈ lw_all) (q4 : Cond.initialized "java/lang/System" ∈ lw_all)
    (kk : ∀ σ', f σ' = some r → Gj g M lv (pc + 3) ls st σ' out) : (zcp σ k a0 sp a dp n).bind f = some r → Gj g M lv pc ls (zi n :: zi dp :: zr a :: zi sp :: zr a0 :: st) σ out := fun h => by
  obtain ⟨σ', hv, h⟩ := zbE h
  exact gj_acopy hk hv hlv hws hd q1 q2 q3 q4 (kk σ' h)
theorem gb_clone {a : Int} {f : zM → Option α} (hlv : 1 ≤ lv) (hws : (st.map (fun v => if v.1 = 1 then 2 else 1)).sum ≤ 20) (hd : decode M.2.1 pc = .ok (.invokevirtual idx, 3))
    (q1 : Cond.methodLink M.1.cls idx ⟨"[B", "clone", "()Ljava/lang/Object;"⟩ ∈ lw_all) (q2 : Cond.sameMethod "[B" "java/lang/Object" "clone" "()Ljava/lang/Object;" ∈ lw_all) (q3 : Cond.native ⟨"java/lang/Object", "clone", "()Ljava/lang/Object;"⟩ ∈ lw_all) (q4 : Cond.instanceMethod ⟨"java/lang/Object", "clone", "()Ljava/lang/Object;"⟩ ∈ lw_all) (q5 : Cond.selects "[B" ⟨"[B", "clone", "()Ljava/lang/Object;"⟩ ⟨"java/lang/Object", "clone", "()Ljava/lang/Object;"⟩ ∈ lw_all) (q6 : Cond.castable "[B" "java/lang/Cloneable" ∈ lw_tbl)
    (kk : ∀ σ', f σ' = some r → Gj g M lv (pc + 3) ls (zr (zN σ) :: st) σ' out) : (zcln σ a).bind f = some r → Gj g M lv pc ls (zr a :: st) σ out := fun h => by
  obtain ⟨σ', hv, h⟩ := zbE h
  exact gj_clone hv hlv hws hd q1 q2 q3 q4 q5 q6 (kk σ' h)
theorem gj_ordE {a : Int} {ref : String} (h : zen a = true) (hd : decode M.2.1 pc = .ok (.getfield idx, 3)) (hq : Cond.fieldLink M.1.cls idx ref "ordinal" "I" ∈ lw_all) (hs : ref = "java/lang/Enum") (k : Gj g M lv (pc + 3) ls (zi (-2 - a) :: st) σ out) : Gj g M lv pc ls (zr a :: st) σ out := by
  obtain ⟨i, hi, rfl⟩ := zenE h
  refine gj_ord hi hd hq hs ?_
  rw [show (-2 - (-2 - (i : Int))) = i by omega] at k
  exact k
theorem gj_mmin {a b : Int} (hd : decode M.2.1 pc = .ok (.invokestatic idx, 3)) (q1 : Cond.methodLink M.1.cls idx Lib.Math.min.name ∈ lw_all) (q2 : Cond.static Lib.Math.min.name ∈ lw_all) (q3 : Cond.initialized "java/lang/Math" ∈ lw_all) (q4 : Cond.code Lib.Math.min.name Lib.Math.min.code 2 (some .int) ∈ lw_all) (hlv : 1 ≤ lv) (hws : (st.map (fun v => if v.1 = 1 then 2 else 1)).sum ≤ 20)
    (k : Gj g M lv (pc + 3) ls (zi (if b < a then b else a) :: st) σ out) : Gj g M lv pc ls (zi b :: zi a :: st) σ out := by
  intro p e s m args below meth c H locs lc σs ⟨h1, h2, h3, h4, h5, h6, h7, h8, h9, h10, h11⟩
  have hcx := h2
  obtain ⟨hx, hb, hml, hrr, hlk, hown, hnm, hW, hh, hsz⟩ := hcx
  have hcat : ((st.map (zval g)).map fun v => v.category).sum ≤ 20 := by rw [zcatsum]; exact hws
  have e1 := zok_i (zhd h11)
  have e2 := zok_i (zhd (ztl h11))
  have K := k p e s m args below meth c H locs lc σs ⟨h1, h2, h3, h4, h5, h6, h7, h8, h9, h10, zmem (by split; exact zhd h11; exact zhd (ztl h11)) (ztl (ztl h11))⟩
  simp only [List.map_cons, zval_i] at K ⊢
  refine va_mmin hx hb (by rw [hml]; exact h9.1.symm) hown (zw h1 q1 hW args) (zw h1 q2 hW args) (zw h1 q3 hW args) (zw h1 q4 hW args) hlv (by show _ ≤ 46 * lv + 192; omega) (by show _ ≤ zB g + 600384 - zN σs; omega) (by show _ ≤ 7287785 - zU σs; omega) hd ?_
  have e3 : (if Int32.ofInt b < Int32.ofInt a then Int32.ofInt b else Int32.ofInt a) = Int32.ofInt (if b < a then b else a) := by
    by_cases h : b < a
    · rw [if_pos h, if_pos (by rw [Int32.lt_iff_toInt_lt, e1, e2]; exact h)]
    · rw [if_neg h, if_neg (by rw [Int32.lt_iff_toInt_lt, e1, e2]; exact h)]
  rw [e3]
  exact K
theorem gj_mmax {a b : Int} (hd : decode M.2.1 pc = .ok (.invokestatic idx, 3)) (q1 : Cond.methodLink M.1.cls idx Lib.Math.max.name ∈ lw_all) (q2 : Cond.static Lib.Math.max.name ∈ lw_all) (q3 : Cond.initialized "java/lang/Math" ∈ lw_all) (q4 : Cond.code Lib.Math.max.name Lib.Math.max.code 2 (some .int) ∈ lw_all) (hlv : 1 ≤ lv) (hws : (st.map (fun v => if v.1 = 1 then 2 else 1)).sum ≤ 20)
    (k : Gj g M lv (pc + 3) ls (zi (if a < b then b else a) :: st) σ out) : Gj g M lv pc ls (zi b :: zi a :: st) σ out := by
  intro p e s m args below meth c H locs lc σs ⟨h1, h2, h3, h4, h5, h6, h7, h8, h9, h10, h11⟩
  have hcx := h2
  obtain ⟨hx, hb, hml, hrr, hlk, hown, hnm, hW, hh, hsz⟩ := hcx
  have hcat : ((st.map (zval g)).map fun v => v.category).sum ≤ 20 := by rw [zcatsum]; exact hws
  have e1 := zok_i (zhd h11)
  have e2 := zok_i (zhd (ztl h11))
  have K := k p e s m args below meth c H locs lc σs ⟨h1, h2, h3, h4, h5, h6, h7, h8, h9, h10, zmem (by split; exact zhd h11; exact zhd (ztl h11)) (ztl (ztl h11))⟩
  simp only [List.map_cons, zval_i] at K ⊢
  refine va_mmax hx hb (by rw [hml]; exact h9.1.symm) hown (zw h1 q1 hW args) (zw h1 q2 hW args) (zw h1 q3 hW args) (zw h1 q4 hW args) hlv (by show _ ≤ 46 * lv + 192; omega) (by show _ ≤ zB g + 600384 - zN σs; omega) (by show _ ≤ 7287785 - zU σs; omega) hd ?_
  have e3 : (if Int32.ofInt a < Int32.ofInt b then Int32.ofInt b else Int32.ofInt a) = Int32.ofInt (if a < b then b else a) := by
    by_cases h : a < b
    · rw [if_pos h, if_pos (by rw [Int32.lt_iff_toInt_lt, e1, e2]; exact h)]
    · rw [if_neg h, if_neg (by rw [Int32.lt_iff_toInt_lt, e1, e2]; exact h)]
  rw [e3]
  exact K
theorem zvq_or (g : zG) (a : Int) : zval g (zq a) = .null ∨ ∃ x, zval g (zq a) = .ref x := by
  unfold zval
  rw [if_neg (by simp), if_neg (by simp)]
  split
  · unfold zfm
    split
    · exact Or.inl rfl
    · exact Or.inr ⟨_, rfl⟩
  · exact zref_or g a
theorem gj_aloadQ_n {i : Fin 4} (k : Nat) {a : Int} (hd : decode M.2.1 pc = .ok (.aload_n i, 1)) (hk : ls[k]? = some ((i : Nat), zq a)) (kk : Gj g M lv (pc + 1) ls (zq a :: st) σ out) : Gj g M lv pc ls st σ out :=
  gj_pure (fun _ h h2 => zmem (zlk hk h2) h) (fun hx hb _ _ _ hl _ k => by
    have e := zlc hl hk
    simp only [List.map_cons] at k
    rcases zvq_or g a with h | ⟨x, h⟩
    · rw [h] at e k; exact lv_aload_nN hx hb hd rfl e k
    · rw [h] at e k; exact lv_aload_n hx hb hd rfl e k) kk
theorem gj_rq (k : Gj g M lv pc ls (zq (-1) :: st) σ out) : Gj g M lv pc ls (zr (-1) :: st) σ out := by
  intro p e s m args below meth c H locs lc σs ⟨h1, h2, h3, h4, h5, h6, h7, h8, h9, h10, h11⟩
  have K := k p e s m args below meth c H locs lc σs ⟨h1, h2, h3, h4, h5, h6, h7, h8, h9, h10, zmem (by simp [zok]) (ztl h11)⟩
  simp only [List.map_cons, show zval g (zq (-1)) = zref g (-1) from rfl] at K
  simp only [List.map_cons, zval_r]
  exact K
theorem gb_hn {n e : Nat} {x : Int} {a b : Option α} (kt : a = some r → zTh g M lv pc ls e x σ out) (kf : b = some r → zTh g M lv pc ls n x σ out) : (if n = e then a else b) = some r → zTh g M lv pc ls n x σ out := fun h => by
  by_cases hc : n = e
  · rw [if_pos hc] at h
    subst hc
    exact kt h
  · rw [if_neg hc] at h
    exact kf h
end Y7

set_option maxRecDepth 100000
section Y1
variable {g : zG} {M M' : zT} {lv pc : Nat} {ls : List (Nat × zV)} {st : List zV} {σ : zM} {out : zO} {idx : Nat}
/-- a static whose value was read at the start -/
theorem gj_gets {C n d ref : String} {v : zV} (hZ : zgok g → va_Z C n d (zval g v) (fun q => zB g ≤ q) (zs g) (zs g).heap) (hov : zgok g → zok g v) (hd : decode M.2.1 pc = .ok (.getstatic idx, 3)) (hq : Cond.fieldLink M.1.cls idx ref n d ∈ lw_all) (hs : ref = C ∨ Cond.sameField ref C n d ∈ lw_all)
    (k : Gj g M lv (pc + 3) ls (v :: st) σ out) : Gj g M lv pc ls st σ out := by
  intro p e s m args below meth c H locs lc σs ⟨h1, h2, h3, h4, h5, h6, h7, h8, h9, h10, h11⟩
  have hc := h2
  obtain ⟨hx, hb, hml, hr, hlk, hown, hnm, hW, hh, hsz⟩ := hc
  obtain ⟨cf, kf, fi, f, a, cell, e1, e2, e3, e4, e5, e6, e7, e8⟩ := ((hZ h1).moved hW.alike).kept (H1 := H) (fun a ha _ => h3.2.2.1 a ha)
  refine W.gets hx hb hown (zw h1 hq hW args) (cf := cf) (k := kf) (i := fi) (f := f) ?_ e2 e3 e4 e5 (fun q => by rw [q] at e6; cases e6) e7 rfl hd (k p e s m args below meth c H locs lc σs ⟨h1, h2, h3, h4, h5, h6, h7, h8, h9, h10, zmem (hov h1) h11⟩)
  rcases hs with hs | hs
  · rw [hs]; exact e1
  · exact u_same (args := #[]) (zw h1 hs hW #[]) _ e1
theorem gj_enum {i : Nat} {n ref : String} (hi : i < 11) (hn : zkinds.getD i "" = n) (hd : decode M.2.1 pc = .ok (.getstatic idx, 3)) (hq : Cond.fieldLink M.1.cls idx ref n "LLassoFinder$Kind;" ∈ lw_all) (hs : ref = "LassoFinder$Kind")
    (k : Gj g M lv (pc + 3) ls (zr (-2 - i) :: st) σ out) : Gj g M lv pc ls st σ out := by
  refine gj_gets (C := "LassoFinder$Kind") (n := n) (d := "LLassoFinder$Kind;") (v := zr (-2 - i)) (fun hg => ?_) (fun hg => ?_) hd hq (Or.inl hs) k
  · have h := (hg.2.2.2.1.1 i hi).1
    rw [hn] at h
    rw [zval_r]
    have e : zref g (-2 - i) = .ref (zad g i) := by
      unfold zref
      rw [if_neg (by omega), if_neg (by omega)]
      congr 2
      omega
    rw [e]; exact h
  · simp only [zok, zokr]
    simp
    omega
theorem gj_compact (hd : decode M.2.1 pc = .ok (.getstatic idx, 3)) (hq : Cond.fieldLink M.1.cls idx "java/lang/String" "COMPACT_STRINGS" "Z" ∈ lw_all) (k : Gj g M lv (pc + 3) ls (zi 1 :: st) σ out) : Gj g M lv pc ls st σ out :=
  gj_gets (C := "java/lang/String") (v := zi 1) (fun hg => hg.2.2.2.2.2.2.2.2.2.1) (fun _ => by simp [zok]) hd hq (Or.inl rfl) k
/-- the number of an enum's constant -/
theorem gj_ord {i : Nat} {ref : String} (hi : i < 11) (hd : decode M.2.1 pc = .ok (.getfield idx, 3)) (hq : Cond.fieldLink M.1.cls idx ref "ordinal" "I" ∈ lw_all) (hs : ref = "java/lang/Enum") (k : Gj g M lv (pc + 3) ls (zi i :: st) σ out) : Gj g M lv pc ls (zr (-2 - i) :: st) σ out := by
  intro p e s m args below meth c H locs lc σs ⟨h1, h2, h3, h4, h5, h6, h7, h8, h9, h10, h11⟩
  have hc := h2
  obtain ⟨hx, hb, hml, hr, hlk, hown, hnm, hW, hh, hsz⟩ := hc
  have hE := (h1.2.2.2.1.moved hW.alike).kept (H1 := H) (fun a ha _ => h3.2.2.1 a ha)
  obtain ⟨cf, kf, fi, f, cell, e1, e2, e3, e4, e5, e6⟩ := (hE.1 i hi).2.2 _ (List.mem_cons_self)
  have er : zref g (-2 - i) = .ref (zad g i) := by
    unfold zref
    rw [if_neg (by omega), if_neg (by omega)]
    congr 2
    omega
  have ev : (([0, 1, 2, 3, 4, 5, 6, 7, 8, 9, 10] : List Int32).getD i 0) = Int32.ofInt i := by
    match i, hi with
    | 0, _ => rfl
    | 1, _ => rfl
    | 2, _ => rfl
    | 3, _ => rfl
    | 4, _ => rfl
    | 5, _ => rfl
    | 6, _ => rfl
    | 7, _ => rfl
    | 8, _ => rfl
    | 9, _ => rfl
    | 10, _ => rfl
  simp only [List.map_cons, zval_r, er]
  subst hs
  refine W.getf hx hb hown (zw h1 hq hW args) e1 e2 e3 e4 (v := zval g (zi i)) (by rw [zval_i, ← ev]; exact e5) rfl rfl hd (k p e s m args below meth c H locs lc σs ⟨h1, h2, h3, h4, h5, h6, h7, h8, h9, h10, zmem (by simp only [zok, if_true]; omega) (ztl h11)⟩)
/-- Object's constructor -/
theorem gj_obj {a : Int} (ha : 0 ≤ a) (hd : decode M.2.1 pc = .ok (.invokespecial idx, 3)) (q1 : Cond.methodLink M.1.cls idx Lib.objectInit ∈ lw_all) (q2 : Cond.instanceMethod Lib.objectInit ∈ lw_all) (q3 : Cond.code Lib.objectInit ⟨#[0xb1]⟩ 1 none ∈ lw_all) (hlv : 1 ≤ lv) (hws : (st.map (fun v => if v.1 = 1 then 2 else 1)).sum ≤ 20)
    (k : Gj g M lv (pc + 3) ls st σ out) : Gj g M lv pc ls (zr a :: st) σ out := by
  intro p e s m args below meth c H locs lc σs ⟨h1, h2, h3, h4, h5, h6, h7, h8, h9, h10, h11⟩
  have hc := h2
  obtain ⟨hx, hb, hml, hr, hlk, hown, hnm, hW, hh, hsz⟩ := hc
  simp only [List.map_cons, zval_r, zref_at g ha]
  refine W.objInit hx hb hown (zw h1 q1 hW args) (zw h1 q2 hW args) (zw h1 q3 hW args) rfl (by rw [hml]; exact h9.1) rfl hd hlv (by
    show 2 * 0 + ((st.map (zval g)).map fun v => v.category).sum + 12 ≤ 46 * lv + 192
    rw [zcatsum]; omega) (k p e s m args below meth c H locs lc σs ⟨h1, h2, h3, h4, h5, h6, h7, h8, h9, h10, ztl h11⟩)
/-- switches -/
theorem gj_table {dflt lo hi : Int} {offs : Array Int} {len : Nat} {a : Int} (hd : decode M.2.1 pc = .ok (.tableswitch dflt lo hi offs, len)) (td : Nat) (htd : (pc : Int) + dflt = td)
    (kd : a < lo ∨ hi < a → Gj g M lv td ls st σ out) (kt : lo ≤ a → a ≤ hi → ∃ (off : Int) (tgt : Nat), offs[(a - lo).toNat]? = some off ∧ (pc : Int) + off = tgt ∧ Gj g M lv tgt ls st σ out) : Gj g M lv pc ls (zi a :: st) σ out := by
  intro p e s m args below meth c H locs lc σs hst
  have hst' := hst
  obtain ⟨h1, h2, h3, h4, h5, h6, h7, h8, h9, h10, h11⟩ := hst
  have hc := h2
  obtain ⟨hx, hb, hml, hr, hlk, hown, hnm, hW, hh, hsz⟩ := hc
  have e1 := zok_i (zhd h11)
  have hz : ∀ {tgt : Nat}, Gj g M lv tgt ls st σ out → W p (zl g) e (zroom g lv σs) s m args below meth c H locs (zN σ - zN σs) (zU σ - zU σs) (zQ g σs out s below) (F0 m tgt lc (st.map (zval g))) := fun k => k p e s m args below meth c H locs lc σs ⟨h1, h2, h3, h4, h5, h6, h7, h8, h9, h10, ztl h11⟩
  simp only [List.map_cons, zval_i]
  by_cases h : a < lo ∨ hi < a
  · exact lv_tableOut hx hb hd (by rw [e1]; exact h) htd (hz (kd h))
  · have ha : lo ≤ a := by omega
    have hb' : a ≤ hi := by omega
    obtain ⟨off, tgt, q1, q2, q3⟩ := kt ha hb'
    exact lv_tableIn hx hb hd (by rw [e1]; omega) (by rw [e1]; omega) (by rw [e1]; exact q1) q2 (hz q3)
theorem gj_lookup {dflt : Int} {ps : Array (Int × Int)} {len : Nat} {a : Int} (hd : decode M.2.1 pc = .ok (.lookupswitch dflt ps, len)) (hp : (ps.toList.zip (ps.toList.drop 1)).all (fun (a, next) => a.1 < next.1) = true)
    (kt : ∃ tgt : Nat, (pc : Int) + Op.lookupswitch.offset ps.toList dflt a = tgt ∧ Gj g M lv tgt ls st σ out) : Gj g M lv pc ls (zi a :: st) σ out := by
  intro p e s m args below meth c H locs lc σs ⟨h1, h2, h3, h4, h5, h6, h7, h8, h9, h10, h11⟩
  have hc := h2
  obtain ⟨hx, hb, hml, hr, hlk, hown, hnm, hW, hh, hsz⟩ := hc
  have e1 := zok_i (zhd h11)
  obtain ⟨tgt, q1, q2⟩ := kt
  simp only [List.map_cons, zval_i]
  exact lv_lookup hx hb hd hp rfl (by rw [e1]; exact q1) (q2 p e s m args below meth c H locs lc σs ⟨h1, h2, h3, h4, h5, h6, h7, h8, h9, h10, ztl h11⟩)
theorem gj_ldc2 {v : Int64} (hd : decode M.2.1 pc = .ok (.ldc2_w idx, 3)) (hq : Cond.constantLong M.1.cls idx v ∈ lw_all) {a : Int} (ha : v.toInt = a) (k : Gj g M lv (pc + 3) ls (zj a :: st) σ out) : Gj g M lv pc ls st σ out := by
  subst ha
  intro p e s m args below meth c H locs lc σs ⟨h1, h2, h3, h4, h5, h6, h7, h8, h9, h10, h11⟩
  have hc := h2
  obtain ⟨hx, hb, hml, hr, hlk, hown, hnm, hW, hh, hsz⟩ := hc
  have K := k p e s m args below meth c H locs lc σs ⟨h1, h2, h3, h4, h5, h6, h7, h8, h9, h10, zmem (zok_long g v) h11⟩
  rw [List.map_cons, zval_long] at K
  exact lv_ldc2 hx hb hown (zw h1 hq hW args) hd K
theorem gj_ldc {v : Int32} (hd : decode M.2.1 pc = .ok (.ldc idx, 2)) (hq : Cond.constant M.1.cls idx v ∈ lw_all) {a : Int} (ha : v.toInt = a) (k : Gj g M lv (pc + 2) ls (zi a :: st) σ out) : Gj g M lv pc ls st σ out := by
  subst ha
  intro p e s m args below meth c H locs lc σs ⟨h1, h2, h3, h4, h5, h6, h7, h8, h9, h10, h11⟩
  have hc := h2
  obtain ⟨hx, hb, hml, hr, hlk, hown, hnm, hW, hh, hsz⟩ := hc
  have K := k p e s m args below meth c H locs lc σs ⟨h1, h2, h3, h4, h5, h6, h7, h8, h9, h10, zmem (zok_int g v) h11⟩
  rw [List.map_cons, zval_int] at K
  exact lv_ldc hx hb hown (zw h1 hq hW args) hd K
/-- a cast to an object's own class -/
theorem gj_cast {ci : Nat} {r : vw_C} {a : Int} (hc : zcl[ci]? = some r) (ha : 0 ≤ a) (hk : (zK σ a.toNat).1 = ci + 1) (hd : decode M.2.1 pc = .ok (.checkcast idx, 3)) (hq : Cond.classLink M.1.cls idx r.1 ∈ lw_all) (k : Gj g M lv (pc + 3) ls (zr a :: st) σ out) : Gj g M lv pc ls (zr a :: st) σ out := by
  intro p e s m args below meth c H locs lc σs ⟨h1, h2, h3, h4, h5, h6, h7, h8, h9, h10, h11⟩
  have hcx := h2
  obtain ⟨hx, hb, hml, hr, hlk, hown, hnm, hW, hh, hsz⟩ := hcx
  obtain ⟨cell, kC, q1, q2, q3, q4⟩ := zrecv h1 hW h3 hc ha hk
  have K := k p e s m args below meth c H locs lc σs ⟨h1, h2, h3, h4, h5, h6, h7, h8, h9, h10, h11⟩
  simp only [List.map_cons, zval_r, zref_at g ha] at K ⊢
  exact va_castS hx hb hown (zw h1 hq hW args) ((zva h1 hW).1 ci _ hc).2 ⟨cell, q1, q2, q3⟩ hd K
end Y1

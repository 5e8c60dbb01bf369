set_option maxRecDepth 100000
/-! the rules with the function's equation ahead of the judgement -/
theorem zst_ {F G G' : Prop} (f : G' → G) (k : F → G') : F → G := fun h => f (k h)
theorem gb_ite {α : Type} {r : α} {c : Prop} [Decidable c] {a b : Option α} {G : Prop} (kt : c → a = some r → G) (kf : ¬ c → b = some r → G) : (if c then a else b) = some r → G := fun h => by
  by_cases hc : c
  · exact kt hc (zifT hc h)
  · exact kf hc (zifF hc h)
theorem zgen {o : Option zO} {out : zO} {G : Prop} (h : o = some out) (k : ∀ r, (fun o : zO => o = out) r → o = some r → G) : G := k out rfl h
section Y3
variable {g : zG} {M M' : zT} {lv pc : Nat} {ls : List (Nat × zV)} {st : List zV} {σ : zM} {out : zO} {α : Type} {r : α}
theorem gb_if {c : Prop} [Decidable c] {a b : Option α} {G A B : Prop} (rule : (c → A) → (¬ c → B) → G) (kt : a = some r → A) (kf : b = some r → B) : (if c then a else b) = some r → G := fun h => rule (fun hc => kt (zifT hc h)) (fun hc => kf (zifF hc h))
theorem gb_let {e : Int} {k : Int → Option α} {t : Nat} (kk : ∀ x, k x = some r → Gj g M lv pc ls ((t, x) :: st) σ out) : zlet e k = some r → Gj g M lv pc ls ((t, e) :: st) σ out := fun h => kk e h
theorem gb_gd {b : Bool} {a : Option α} {G : Prop} (kk : b = true → a = some r → G) : zgd b a = some r → G := fun h => kk (zgdE h).1 (zgdE h).2
theorem gb_get {f t idx : Nat} {C n d ref : String} {fin : Bool} {a : Int} {k : Int → Option α} (hz : zfl f t C n d fin) (hd : decode M.2.1 pc = .ok (.getfield idx, 3)) (hq : Cond.fieldLink M.1.cls idx ref n d ∈ lw_all) (hs : ref = C ∨ Cond.sameField ref C n d ∈ lw_all)
    (kk : ∀ v, k v = some r → Gj g M lv (pc + 3) ls ((t, v) :: st) σ out) : (zgf σ f a).bind k = some r → Gj g M lv pc ls (zr a :: st) σ out := fun h => by
  obtain ⟨v, hv, h⟩ := zbE h
  exact gj_get hz hv hd hq hs (kk v h)
theorem gb_getNe {f t idx : Nat} {C n d ref host : String} {fin : Bool} {a : Int} {k : Int → Option α} (hz : zfl f t C n d fin) (hd : decode M.2.1 pc = .ok (.getfield idx, 3)) (hq : Cond.fieldLinkNest M.1.cls idx ref n d host ∈ lw_tbl) (hs : ref = C ∨ Cond.sameField ref C n d ∈ lw_all)
    (kk : ∀ v, k v = some r → Gj g M lv (pc + 3) ls ((t, v) :: st) σ out) : (zgf σ f a).bind k = some r → Gj g M lv pc ls (zr a :: st) σ out := fun h => by
  obtain ⟨v, hv, h⟩ := zbE h
  exact gj_getNe hz hv hd hq hs (kk v h)
theorem gb_put {f t idx : Nat} {C n d ref : String} {a v : Int} {k : zM → Option α} (hz : zfl f t C n d false) (hr : zok g (t, v) → zokt g (zft f) v) (hd : decode M.2.1 pc = .ok (.putfield idx, 3)) (hq : Cond.fieldLink M.1.cls idx ref n d ∈ lw_all) (hs : ref = C ∨ Cond.sameField ref C n d ∈ lw_all)
    (kk : ∀ σ', k σ' = some r → Gj g M lv (pc + 3) ls st σ' out) : (zpf σ f a v).bind k = some r → Gj g M lv pc ls ((t, v) :: zr a :: st) σ out := fun h => by
  obtain ⟨σ', hv, h⟩ := zbE h
  exact gj_put hz hv hr hd hq hs (kk σ' h)
theorem gb_putNe {f t idx : Nat} {C n d ref host : String} {a v : Int} {k : zM → Option α} (hz : zfl f t C n d false) (hr : zok g (t, v) → zokt g (zft f) v) (hd : decode M.2.1 pc = .ok (.putfield idx, 3)) (hq : Cond.fieldLinkNest M.1.cls idx ref n d host ∈ lw_tbl) (hs : ref = C ∨ Cond.sameField ref C n d ∈ lw_all)
    (kk : ∀ σ', k σ' = some r → Gj g M lv (pc + 3) ls st σ' out) : (zpf σ f a v).bind k = some r → Gj g M lv pc ls ((t, v) :: zr a :: st) σ out := fun h => by
  obtain ⟨σ', hv, h⟩ := zbE h
  exact gj_putNe hz hv hr hd hq hs (kk σ' h)
theorem gb_putFi {f t idx : Nat} {C n d ref : String} {a v : Int} {k : zM → Option α} (hz : zfl f t C n d true) (hin : M.1.name = "<init>") (hdc : C = M.1.cls) (hr : zok g (t, v) → zokt g (zft f) v) (hd : decode M.2.1 pc = .ok (.putfield idx, 3)) (hq : Cond.fieldLink M.1.cls idx ref n d ∈ lw_all) (hs : ref = C ∨ Cond.sameField ref C n d ∈ lw_all)
    (kk : ∀ σ', k σ' = some r → Gj g M lv (pc + 3) ls st σ' out) : (zpf σ f a v).bind k = some r → Gj g M lv pc ls ((t, v) :: zr a :: st) σ out := fun h => by
  obtain ⟨σ', hv, h⟩ := zbE h
  exact gj_putFi hz hv hin hdc hr hd hq hs (kk σ' h)
theorem gb_alen {k : Nat} {a : Int} {f : Int → Option α} (h101 : 101 ≤ k) (hd : decode M.2.1 pc = .ok (.arraylength, 1)) (kk : ∀ v, f v = some r → Gj g M lv (pc + 1) ls (zi v :: st) σ out) : (zla σ k a).bind f = some r → Gj g M lv pc ls (zr a :: st) σ out := fun h => by
  obtain ⟨v, hv, h⟩ := zbE h
  exact gj_alen h101 hv hd (kk v h)
theorem gb_iald {a i : Int} {f : Int → Option α} (hd : decode M.2.1 pc = .ok (.iaload, 1)) (kk : ∀ v, f v = some r → Gj g M lv (pc + 1) ls (zi v :: st) σ out) : (zga σ 101 a i).bind f = some r → Gj g M lv pc ls (zi i :: zr a :: st) σ out := fun h => by
  obtain ⟨v, hv, h⟩ := zbE h
  exact gj_iald hv hd (kk v h)
theorem gb_lald {a i : Int} {f : Int → Option α} (hd : decode M.2.1 pc = .ok (.laload, 1)) (kk : ∀ v, f v = some r → Gj g M lv (pc + 1) ls (zj v :: st) σ out) : (zga σ 102 a i).bind f = some r → Gj g M lv pc ls (zi i :: zr a :: st) σ out := fun h => by
  obtain ⟨v, hv, h⟩ := zbE h
  exact gj_lald hv hd (kk v h)
theorem gb_zald {a i : Int} {f : Int → Option α} (hd : decode M.2.1 pc = .ok (.baload, 1)) (kk : ∀ v, f v = some r → Gj g M lv (pc + 1) ls (zi v :: st) σ out) : (zga σ 103 a i).bind f = some r → Gj g M lv pc ls (zi i :: zr a :: st) σ out := fun h => by
  obtain ⟨v, hv, h⟩ := zbE h
  exact gj_zald hv hd (kk v h)
theorem gb_bald {a i : Int} {f : Int → Option α} (hd : decode M.2.1 pc = .ok (.baload, 1)) (kk : ∀ v, f v = some r → Gj g M lv (pc + 1) ls (zi v :: st) σ out) : (zga σ 104 a i).bind f = some r → Gj g M lv pc ls (zi i :: zr a :: st) σ out := fun h => by
  obtain ⟨v, hv, h⟩ := zbE h
  exact gj_bald hv hd (kk v h)
theorem gb_aald {k : Nat} {a i : Int} {f : Int → Option α} (hk : 105 ≤ k ∧ k ≤ 110) (hd : decode M.2.1 pc = .ok (.aaload, 1)) (kk : ∀ v, f v = some r → Gj g M lv (pc + 1) ls (zr v :: st) σ out) : (zga σ k a i).bind f = some r → Gj g M lv pc ls (zi i :: zr a :: st) σ out := fun h => by
  obtain ⟨v, hv, h⟩ := zbE h
  exact gj_aald hk hv hd (kk v h)
theorem gb_iast {a i v : Int} {f : zM → Option α} (hd : decode M.2.1 pc = .ok (.iastore, 1)) (kk : ∀ σ', f σ' = some r → Gj g M lv (pc + 1) ls st σ' out) : (zpa σ 101 a i v).bind f = some r → Gj g M lv pc ls (zi v :: zi i :: zr a :: st) σ out := fun h => by
  obtain ⟨σ', hv, h⟩ := zbE h
  exact gj_iast hv hd (kk σ' h)
theorem gb_last {a i v : Int} {f : zM → Option α} (hd : decode M.2.1 pc = .ok (.lastore, 1)) (kk : ∀ σ', f σ' = some r → Gj g M lv (pc + 1) ls st σ' out) : (zpa σ 102 a i v).bind f = some r → Gj g M lv pc ls (zj v :: zi i :: zr a :: st) σ out := fun h => by
  obtain ⟨σ', hv, h⟩ := zbE h
  exact gj_last hv hd (kk σ' h)
theorem gb_zast {a i v : Int} {f : zM → Option α} (h01 : v = 0 ∨ v = 1) (hd : decode M.2.1 pc = .ok (.bastore, 1)) (kk : ∀ σ', f σ' = some r → Gj g M lv (pc + 1) ls st σ' out) : (zpa σ 103 a i v).bind f = some r → Gj g M lv pc ls (zi v :: zi i :: zr a :: st) σ out := fun h => by
  obtain ⟨σ', hv, h⟩ := zbE h
  exact gj_zast hv h01 hd (kk σ' h)
theorem gb_bast {a i v : Int} {f : zM → Option α} (h01 : -128 ≤ v ∧ v < 128) (hd : decode M.2.1 pc = .ok (.bastore, 1)) (kk : ∀ σ', f σ' = some r → Gj g M lv (pc + 1) ls st σ' out) : (zpa σ 104 a i v).bind f = some r → Gj g M lv pc ls (zi v :: zi i :: zr a :: st) σ out := fun h => by
  obtain ⟨σ', hv, h⟩ := zbE h
  exact gj_bast hv h01 hd (kk σ' h)
theorem gb_aast {k : Nat} {a i v : Int} {f : zM → Option α} (hk : 105 ≤ k ∧ k ≤ 109) (hd : decode M.2.1 pc = .ok (.aastore, 1)) (kk : ∀ σ', f σ' = some r → Gj g M lv (pc + 1) ls st σ' out) : (zpr σ k a i v).bind f = some r → Gj g M lv pc ls (zr v :: zi i :: zr a :: st) σ out := fun h => by
  obtain ⟨σ', hv, h⟩ := zbE h
  exact gj_aast hk hv hd (kk σ' h)
theorem gb_new {ci n idx : Nat} {c : vw_C} {f : zM → Option α} (hc : zcl[ci]? = some c) (h5 : ci ≠ 5) (hd : decode M.2.1 pc = .ok (.new idx, 3)) (hq1 : Cond.classLink M.1.cls idx c.1 ∈ lw_all) (hq2 : Cond.instantiable c.1 n ∈ lw_all) (hq3 : Cond.initialized c.1 ∈ lw_all)
    (kk : ∀ σ', f σ' = some r → Gj g M lv (pc + 3) ls (zr (zN σ) :: st) σ' out) : (znO σ ci n).bind f = some r → Gj g M lv pc ls st σ out := fun h => by
  obtain ⟨σ', hv, h⟩ := zbE h
  exact gj_new hc h5 hv hd hq1 hq2 hq3 (kk σ' h)
theorem gb_newa {k : Nat} {atype : ArrayType} {n : Int} {f : zM → Option α} (h101 : 101 ≤ k ∧ k ≤ 104) (hty : newarray.typeOf atype = zaty k) (hd : decode M.2.1 pc = .ok (.newarray atype, 2)) (hq : Cond.arrayClass (zaty k) ∈ lw_all)
    (kk : ∀ σ', f σ' = some r → Gj g M lv (pc + 2) ls (zr (zN σ) :: st) σ' out) : (znA σ k n).bind f = some r → Gj g M lv pc ls (zi n :: st) σ out := fun h => by
  obtain ⟨σ', hv, h⟩ := zbE h
  exact gj_newa h101 hty hv hd hq (kk σ' h)
theorem gb_anew {k idx : Nat} {C : String} {n : Int} {f : zM → Option α} (h101 : 105 ≤ k ∧ k ≤ 109) (hty : zaty k = .object C) (hd : decode M.2.1 pc = .ok (.anewarray idx, 3)) (hq : Cond.classLink M.1.cls idx C ∈ lw_all) (ho : Cond.arrayOver (.object C) ∈ lw_tbl)
    (kk : ∀ σ', f σ' = some r → Gj g M lv (pc + 3) ls (zr (zN σ) :: st) σ' out) : (znA σ k n).bind f = some r → Gj g M lv pc ls (zi n :: st) σ out := fun h => by
  obtain ⟨σ', hv, h⟩ := zbE h
  exact gj_anew h101 hty hv hd hq ho (kk σ' h)
theorem gb_exc {k ic idx : Nat} {f : zM → Option α} (hk : 51 ≤ k ∧ k ≤ 54) (hlv : 6 ≤ lv) (hws : (st.map (fun v => if v.1 = 1 then 2 else 1)).sum ≤ 20)
    (hd0 : decode M.2.1 pc = .ok (.new idx, 3)) (hd1 : decode M.2.1 (pc + 3) = .ok (.dup, 1)) (hd2 : decode M.2.1 (pc + 4) = .ok (.invokespecial ic, 3)) (q1 : Cond.classLink M.1.cls idx (zex k) ∈ lw_all) (q2 : Cond.methodLink M.1.cls ic (Bundle.init0 (zex k)) ∈ lw_all)
    (kk : ∀ σ', f σ' = some r → Gj g M lv (pc + 7) ls (zr (zN σ) :: st) σ' out) : (znX σ k).bind f = some r → Gj g M lv pc ls st σ out := fun h => by
  obtain ⟨σ', hv, h⟩ := zbE h
  exact gj_excNew hk hv hlv hws hd0 hd1 hd2 q1 q2 (kk σ' h)
/-- the callee's call, as a call takes it -/
def zCl (g : zG) (M : zT) (lv pc len : Nat) (o : Option zO) (as rest : List zV) (σ : zM) : Prop :=
  ∀ out, o = some out → ∃ M', zLk g M pc len M' as rest σ ∧ Cj g lv M' as σ out ∧ (zcodeW M' ∈ lw_all ∧ Cond.initialized M'.1.cls ∈ lw_all) ∧ (rest.map (fun v => if v.1 = 1 then 2 else 1)).sum + M'.2.2.1 ≤ 35
theorem zCl.of {o : Option zO} {as rest : List zV} {len : Nat} (hl : zLk g M pc len M' as rest σ) {n : Nat} (q : zplain M' n ∧ (zcodeW M' ∈ lw_all ∧ Cond.initialized M'.1.cls ∈ lw_all)) (hw : (rest.map (fun v => if v.1 = 1 then 2 else 1)).sum + M'.2.2.1 ≤ 35) (hC : ∀ {out : zO}, o = some out → Cj g lv M' as σ out) : zCl g M lv pc len o as rest σ := fun out h => ⟨M', hl, hC h, q.2, hw⟩
theorem zCl.ite {o o' : Option zO} {as rest : List zV} {len : Nat} {b : Bool} (h1 : b = true → zCl g M lv pc len o as rest σ) (h2 : zCl g M lv pc len o' as rest σ) : zCl g M lv pc len (if b = true then o else o') as rest σ := fun out h => by
  by_cases hb : b = true
  · rw [if_pos hb] at h; exact h1 hb out h
  · rw [if_neg hb] at h; exact h2 out h
theorem zCl.no {as rest : List zV} {len : Nat} : zCl g M lv pc len none as rest σ := fun out h => by cases h
theorem gb_callI {o : Option zO} {as rest : List zV} {len : Nat} {k : Int → zM → Option α} (hc : zCl g M lv pc len o as rest σ) (kk : ∀ v σ', k v σ' = some r → Gj g M (lv + 1) (pc + len) ls (zi v :: rest) σ' out) : zci o k = some r → Gj g M (lv + 1) pc ls (as.reverse ++ rest) σ out := fun h => by
  obtain ⟨v, σ', ho, h⟩ := zciE h
  obtain ⟨M', h1, h2, h3, h4⟩ := hc _ ho
  exact gj_callI h1 h2 h3 h4 (kk v σ' h)
theorem gb_callJ {o : Option zO} {as rest : List zV} {len : Nat} {k : Int → zM → Option α} (hc : zCl g M lv pc len o as rest σ) (kk : ∀ v σ', k v σ' = some r → Gj g M (lv + 1) (pc + len) ls (zj v :: rest) σ' out) : zcj o k = some r → Gj g M (lv + 1) pc ls (as.reverse ++ rest) σ out := fun h => by
  obtain ⟨v, σ', ho, h⟩ := zcjE h
  obtain ⟨M', h1, h2, h3, h4⟩ := hc _ ho
  exact gj_callJ h1 h2 h3 h4 (kk v σ' h)
theorem gb_callA {o : Option zO} {as rest : List zV} {len : Nat} {k : Int → zM → Option α} (hc : zCl g M lv pc len o as rest σ) (kk : ∀ v σ', k v σ' = some r → Gj g M (lv + 1) (pc + len) ls (zr v :: rest) σ' out) : zcr o k = some r → Gj g M (lv + 1) pc ls (as.reverse ++ rest) σ out := fun h => by
  obtain ⟨v, σ', ho, h⟩ := zcrE h
  obtain ⟨M', h1, h2, h3, h4⟩ := hc _ ho
  exact gj_callA h1 h2 h3 h4 (kk v σ' h)
theorem gb_callV {o : Option zO} {as rest : List zV} {len : Nat} {k : zM → Option α} (hc : zCl g M lv pc len o as rest σ) (kk : ∀ σ', k σ' = some r → Gj g M (lv + 1) (pc + len) ls rest σ' out) : zcv o k = some r → Gj g M (lv + 1) pc ls (as.reverse ++ rest) σ out := fun h => by
  obtain ⟨σ', ho, h⟩ := zcvE h
  obtain ⟨M', h1, h2, h3, h4⟩ := hc _ ho
  exact gj_callV h1 h2 h3 h4 (kk σ' h)
/-- what becomes of an exception out of a callee: it goes on, or is caught here -/
def zTh (g : zG) (M : zT) (lv pc : Nat) (ls : List (Nat × zV)) (n : Nat) (a : Int) (σ' : zM) (out : zO) : Prop :=
  (M.2.2.2.2.all (fun h => !(decide (h.1 ≤ pc) && decide (pc < h.2.1))) = true ∧ (n + 1, zr a, σ') = out) ∨
  ∃ (pre : List (Nat × Nat × Nat × Nat)) (y : Nat × Nat × Nat × Nat) (post : List (Nat × Nat × Nat × Nat)), M.2.2.2.2 = pre ++ y :: post ∧ (∀ z ∈ pre, zlets M pc (n + 51) z) ∧ (y.1 ≤ pc ∧ pc < y.2.1) ∧ y.2.2.2 ≠ 0 ∧ Cond.classLink M.1.cls y.2.2.2 (zex (n + 51)) ∈ lw_all ∧ Gj g M (lv + 1) y.2.2.1 ls [zr a] σ' out
theorem gj_th {as rest : List zV} {len n : Nat} {a : Int} {σ' : zM} (hl : zLk g M pc len M' as rest σ) (hC : Cj g lv M' as σ (n + 1, zr a, σ')) (q : zcodeW M' ∈ lw_all ∧ Cond.initialized M'.1.cls ∈ lw_all) (hw : (rest.map (fun v => if v.1 = 1 then 2 else 1)).sum + M'.2.2.1 ≤ 35) (ht : zTh g M lv pc ls n a σ' out) : Gj g M (lv + 1) pc ls (as.reverse ++ rest) σ out := by
  rcases ht with ⟨h1, h2⟩ | ⟨pre, y, post, h1, h2, h3, h4, h5, h6⟩
  · subst h2
    exact gj_callX hl hC q hw h1
  · exact gj_callH hl hC q.1 q.2 hw pre y post h1 h2 h3 h4 h5 h6
theorem gb_callIT {o : Option zO} {as rest : List zV} {len : Nat} {t : Nat → Int → zM → Option α} {k : Int → zM → Option α} (hc : zCl g M lv pc len o as rest σ) (kt : ∀ n a σ', t n a σ' = some r → zTh g M lv pc ls n a σ' out) (kk : ∀ v σ', k v σ' = some r → Gj g M (lv + 1) (pc + len) ls (zi v :: rest) σ' out) : zciT o t k = some r → Gj g M (lv + 1) pc ls (as.reverse ++ rest) σ out := fun h => by
  rcases zciTE h with ⟨v, σ', ho, h⟩ | ⟨n, a, σ', ho, h⟩ <;> obtain ⟨M', h1, h2, h3, h4⟩ := hc _ ho
  · exact gj_callI h1 h2 h3 h4 (kk v σ' h)
  · exact gj_th h1 h2 h3 h4 (kt n a σ' h)
theorem gb_callJT {o : Option zO} {as rest : List zV} {len : Nat} {t : Nat → Int → zM → Option α} {k : Int → zM → Option α} (hc : zCl g M lv pc len o as rest σ) (kt : ∀ n a σ', t n a σ' = some r → zTh g M lv pc ls n a σ' out) (kk : ∀ v σ', k v σ' = some r → Gj g M (lv + 1) (pc + len) ls (zj v :: rest) σ' out) : zcjT o t k = some r → Gj g M (lv + 1) pc ls (as.reverse ++ rest) σ out := fun h => by
  rcases zcjTE h with ⟨v, σ', ho, h⟩ | ⟨n, a, σ', ho, h⟩ <;> obtain ⟨M', h1, h2, h3, h4⟩ := hc _ ho
  · exact gj_callJ h1 h2 h3 h4 (kk v σ' h)
  · exact gj_th h1 h2 h3 h4 (kt n a σ' h)
theorem gb_callAT {o : Option zO} {as rest : List zV} {len : Nat} {t : Nat → Int → zM → Option α} {k : Int → zM → Option α} (hc : zCl g M lv pc len o as rest σ) (kt : ∀ n a σ', t n a σ' = some r → zTh g M lv pc ls n a σ' out) (kk : ∀ v σ', k v σ' = some r → Gj g M (lv + 1) (pc + len) ls (zr v :: rest) σ' out) : zcrT o t k = some r → Gj g M (lv + 1) pc ls (as.reverse ++ rest) σ out := fun h => by
  rcases zcrTE h with ⟨v, σ', ho, h⟩ | ⟨n, a, σ', ho, h⟩ <;> obtain ⟨M', h1, h2, h3, h4⟩ := hc _ ho
  · exact gj_callA h1 h2 h3 h4 (kk v σ' h)
  · exact gj_th h1 h2 h3 h4 (kt n a σ' h)
theorem gb_callVT {o : Option zO} {as rest : List zV} {len : Nat} {t : Nat → Int → zM → Option α} {k : zM → Option α} (hc : zCl g M lv pc len o as rest σ) (kt : ∀ n a σ', t n a σ' = some r → zTh g M lv pc ls n a σ' out) (kk : ∀ σ', k σ' = some r → Gj g M (lv + 1) (pc + len) ls rest σ' out) : zcvT o t k = some r → Gj g M (lv + 1) pc ls (as.reverse ++ rest) σ out := fun h => by
  rcases zcvTE h with ⟨σ', ho, h⟩ | ⟨n, a, σ', ho, h⟩ <;> obtain ⟨M', h1, h2, h3, h4⟩ := hc _ ho
  · exact gj_callV h1 h2 h3 h4 (kk σ' h)
  · exact gj_th h1 h2 h3 h4 (kt n a σ' h)
theorem gb_iinc {i : Nat} {n : Int} (k : Nat) {a : Int} {f : Int → Option α} (ls' : Int → List (Nat × zV)) (hd : decode M.2.1 pc = .ok (.iinc i n, 3)) (hk : ls[k]? = some (i, zi a)) (hi : i < M.2.2.1) (hl : ∀ x, zsto i (zi x) ls = ls' x) (kk : ∀ x, f x = some r → Gj g M lv (pc + 3) (ls' x) st σ out) : zlet (zadd a n) f = some r → Gj g M lv pc ls st σ out := fun h => gj_iinc k hd hk hi (hl _) (kk _ h)
end Y3

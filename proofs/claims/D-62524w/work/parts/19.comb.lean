set_option maxRecDepth 100000
/-! the pure functions' combinators, and how they are taken apart -/
theorem zbE {α β : Type} {o : Option α} {k : α → Option β} {r : β} (h : o.bind k = some r) : ∃ v, o = some v ∧ k v = some r := by
  cases o with
  | none => cases h
  | some v => exact ⟨v, rfl, h⟩
theorem zmE {α β : Type} {o : Option α} {k : α → β} {r : β} (h : o.map k = some r) : ∃ v, o = some v ∧ k v = r := by
  cases o with
  | none => cases h
  | some v => exact ⟨v, rfl, Option.some.inj h⟩
theorem zifT {α : Type} {c : Prop} [Decidable c] {a b : Option α} {r : α} (hc : c) (h : (if c then a else b) = some r) : a = some r := by rw [if_pos hc] at h; exact h
theorem zifF {α : Type} {c : Prop} [Decidable c] {a b : Option α} {r : α} (hc : ¬ c) (h : (if c then a else b) = some r) : b = some r := by rw [if_neg hc] at h; exact h
def zgd {α : Type} (b : Bool) (k : Option α) : Option α := if b = true then k else none
theorem zgdE {α : Type} {b : Bool} {k : Option α} {r : α} (h : zgd b k = some r) : b = true ∧ k = some r := by
  unfold zgd at h
  split at h
  · rename_i hb; exact ⟨hb, h⟩
  · cases h
def zlet {α : Type} (e : Int) (k : Int → Option α) : Option α := k e
theorem zletE {α : Type} {e : Int} {k : Int → Option α} {r : α} (h : zlet e k = some r) : ∃ x, x = e ∧ k x = some r := ⟨e, rfl, h⟩
def z01 (v : Int) : Bool := v == 0 || v == 1
theorem z01E {v : Int} (h : z01 v = true) : v = 0 ∨ v = 1 := by simpa [z01] using h
def zby (v : Int) : Bool := decide (-128 ≤ v) && decide (v < 128)
theorem zbyE {v : Int} (h : zby v = true) : -128 ≤ v ∧ v < 128 := by simpa [zby] using h
def zch (v : Int) : Bool := decide (0 ≤ v) && decide (v < 65536)
theorem zchE {v : Int} (h : zch v = true) : 0 ≤ v ∧ v < 65536 := by simpa [zch] using h
def znz (v : Int) : Bool := v != 0
theorem znzE {v : Int} (h : znz v = true) : v ≠ 0 := by simpa [znz] using h
def zis (σ : zM) (k : Nat) (a : Int) : Bool := decide (0 ≤ a) && decide ((zK σ a.toNat).1 = k)
theorem zisE {σ : zM} {k : Nat} {a : Int} (h : zis σ k a = true) : 0 ≤ a ∧ (zK σ a.toNat).1 = k := by simpa [zis] using h
/-- an enum constant -/
def zen (a : Int) : Bool := decide (-12 ≤ a) && decide (a ≤ -2)
theorem zenE {a : Int} (h : zen a = true) : ∃ i : Nat, i < 11 ∧ a = -2 - i := by
  simp only [zen, Bool.and_eq_true, decide_eq_true_eq] at h
  exact ⟨(-2 - a).toNat, by omega, by omega⟩
/-- calls that return an int, a long, a reference, nothing -/
def zci {α : Type} (o : Option zO) (k : Int → zM → Option α) : Option α := match o with
  | some (0, (0, v), σ) => k v σ
  | _ => none
def zcj {α : Type} (o : Option zO) (k : Int → zM → Option α) : Option α := match o with
  | some (0, (1, v), σ) => k v σ
  | _ => none
def zcr {α : Type} (o : Option zO) (k : Int → zM → Option α) : Option α := match o with
  | some (0, (2, v), σ) => k v σ
  | _ => none
def zcv {α : Type} (o : Option zO) (k : zM → Option α) : Option α := match o with
  | some (0, (3, 0), σ) => k σ
  | _ => none
theorem zciE {α : Type} {o : Option zO} {k : Int → zM → Option α} {r : α} (h : zci o k = some r) : ∃ v σ, o = some (0, zi v, σ) ∧ k v σ = some r := by
  unfold zci at h
  split at h
  · exact ⟨_, _, rfl, h⟩
  · cases h
theorem zcjE {α : Type} {o : Option zO} {k : Int → zM → Option α} {r : α} (h : zcj o k = some r) : ∃ v σ, o = some (0, zj v, σ) ∧ k v σ = some r := by
  unfold zcj at h
  split at h
  · exact ⟨_, _, rfl, h⟩
  · cases h
theorem zcrE {α : Type} {o : Option zO} {k : Int → zM → Option α} {r : α} (h : zcr o k = some r) : ∃ v σ, o = some (0, zr v, σ) ∧ k v σ = some r := by
  unfold zcr at h
  split at h
  · exact ⟨_, _, rfl, h⟩
  · cases h
theorem zcvE {α : Type} {o : Option zO} {k : zM → Option α} {r : α} (h : zcv o k = some r) : ∃ σ, o = some (0, (3, 0), σ) ∧ k σ = some r := by
  unfold zcv at h
  split at h
  · exact ⟨_, rfl, h⟩
  · cases h
/-- the same, of a callee that may throw -/
def zciT {α : Type} (o : Option zO) (t : Nat → Int → zM → Option α) (k : Int → zM → Option α) : Option α := match o with
  | some (0, (0, v), σ) => k v σ
  | some (n + 1, (2, v), σ) => t n v σ
  | _ => none
def zcjT {α : Type} (o : Option zO) (t : Nat → Int → zM → Option α) (k : Int → zM → Option α) : Option α := match o with
  | some (0, (1, v), σ) => k v σ
  | some (n + 1, (2, v), σ) => t n v σ
  | _ => none
def zcrT {α : Type} (o : Option zO) (t : Nat → Int → zM → Option α) (k : Int → zM → Option α) : Option α := match o with
  | some (0, (2, v), σ) => k v σ
  | some (n + 1, (2, v), σ) => t n v σ
  | _ => none
def zcvT {α : Type} (o : Option zO) (t : Nat → Int → zM → Option α) (k : zM → Option α) : Option α := match o with
  | some (0, (3, 0), σ) => k σ
  | some (n + 1, (2, v), σ) => t n v σ
  | _ => none
theorem zciTE {α : Type} {o : Option zO} {t : Nat → Int → zM → Option α} {k : Int → zM → Option α} {r : α} (h : zciT o t k = some r) : (∃ v σ, o = some (0, zi v, σ) ∧ k v σ = some r) ∨ ∃ n v σ, o = some (n + 1, zr v, σ) ∧ t n v σ = some r := by
  unfold zciT at h
  split at h
  · exact Or.inl ⟨_, _, rfl, h⟩
  · exact Or.inr ⟨_, _, _, rfl, h⟩
  · cases h
theorem zcjTE {α : Type} {o : Option zO} {t : Nat → Int → zM → Option α} {k : Int → zM → Option α} {r : α} (h : zcjT o t k = some r) : (∃ v σ, o = some (0, zj v, σ) ∧ k v σ = some r) ∨ ∃ n v σ, o = some (n + 1, zr v, σ) ∧ t n v σ = some r := by
  unfold zcjT at h
  split at h
  · exact Or.inl ⟨_, _, rfl, h⟩
  · exact Or.inr ⟨_, _, _, rfl, h⟩
  · cases h
theorem zcrTE {α : Type} {o : Option zO} {t : Nat → Int → zM → Option α} {k : Int → zM → Option α} {r : α} (h : zcrT o t k = some r) : (∃ v σ, o = some (0, zr v, σ) ∧ k v σ = some r) ∨ ∃ n v σ, o = some (n + 1, zr v, σ) ∧ t n v σ = some r := by
  unfold zcrT at h
  split at h
  · exact Or.inl ⟨_, _, rfl, h⟩
  · exact Or.inr ⟨_, _, _, rfl, h⟩
  · cases h
theorem zcvTE {α : Type} {o : Option zO} {t : Nat → Int → zM → Option α} {k : zM → Option α} {r : α} (h : zcvT o t k = some r) : (∃ σ, o = some (0, (3, 0), σ) ∧ k σ = some r) ∨ ∃ n v σ, o = some (n + 1, zr v, σ) ∧ t n v σ = some r := by
  unfold zcvT at h
  split at h
  · exact Or.inl ⟨_, rfl, h⟩
  · exact Or.inr ⟨_, _, _, rfl, h⟩
  · cases h
/-- loops -/
def ziter {S R : Type} (b : S → Option (S ⊕ R)) : Nat → S → Option R
  | 0, _ => none
  | n + 1, s => match b s with
    | none => none
    | some (.inl s') => ziter b n s'
    | some (.inr r) => some r
theorem ziter_mono {S R : Type} {b : S → Option (S ⊕ R)} {r : R} : ∀ (n m : Nat) (s : S), n ≤ m → ziter b n s = some r → ziter b m s = some r := by
  intro n
  induction n with
  | zero => intro m s _ h; cases h
  | succ n ih =>
    intro m s hm h
    obtain ⟨m', rfl⟩ : ∃ m', m = m' + 1 := ⟨m - 1, by omega⟩
    unfold ziter at h ⊢
    cases hb : b s with
    | none => rw [hb] at h; cases h
    | some x =>
      rw [hb] at h
      cases x with
      | inl s' => exact ih m' s' (by omega) h
      | inr r' => exact h
noncomputable def zloop {S R : Type} (b : S → Option (S ⊕ R)) (s : S) : Option R :=
  @dite (Option R) (∃ (n : Nat) (r : R), ziter b n s = some r) (Classical.propDecidable _) (fun h => some (Classical.choose (Classical.choose_spec h))) (fun _ => none)
theorem zloop_some {S R : Type} {b : S → Option (S ⊕ R)} {s : S} {r : R} : zloop b s = some r ↔ ∃ n, ziter b n s = some r := by
  unfold zloop
  constructor
  · intro h
    split at h
    · rename_i hx
      refine ⟨Classical.choose hx, ?_⟩
      rw [Classical.choose_spec (Classical.choose_spec hx)]
      exact h
    · cases h
  · rintro ⟨n, hn⟩
    have hx : ∃ (n : Nat) (r : R), ziter b n s = some r := ⟨n, r, hn⟩
    rw [dif_pos hx]
    have h1 := Classical.choose_spec (Classical.choose_spec hx)
    have h2 := ziter_mono _ (max n (Classical.choose hx)) s (Nat.le_max_right _ _) h1
    have h3 := ziter_mono _ (max n (Classical.choose hx)) s (Nat.le_max_left _ _) hn
    rw [h2] at h3
    exact h3
theorem zloop_eq {S R : Type} (b : S → Option (S ⊕ R)) (s : S) : zloop b s = match b s with
    | none => none
    | some (.inl s') => zloop b s'
    | some (.inr r) => some r := by
  cases hb : b s with
  | none =>
    cases h : zloop b s with
    | none => rfl
    | some r =>
      obtain ⟨n, hn⟩ := zloop_some.mp h
      cases n with
      | zero => cases hn
      | succ n => unfold ziter at hn; rw [hb] at hn; cases hn
  | some x =>
    cases x with
    | inl s' =>
      dsimp only
      cases h : zloop b s' with
      | none =>
        cases h2 : zloop b s with
        | none => rfl
        | some r =>
          obtain ⟨n, hn⟩ := zloop_some.mp h2
          cases n with
          | zero => cases hn
          | succ n =>
            unfold ziter at hn
            rw [hb] at hn
            rw [zloop_some.mpr ⟨n, hn⟩] at h
            cases h
      | some r =>
        obtain ⟨n, hn⟩ := zloop_some.mp h
        refine zloop_some.mpr ⟨n + 1, ?_⟩
        unfold ziter
        rw [hb]
        exact hn
    | inr r =>
      refine zloop_some.mpr ⟨1, ?_⟩
      unfold ziter
      rw [hb]
/-- what is owed behind a loop's body -/
def zKL {S R : Type} (P : S → Prop) (K : R → Prop) : S ⊕ R → Prop
  | .inl s => P s
  | .inr r => K r
theorem gj_loop {S R : Type} {b : S → Option (S ⊕ R)} {P : S → Prop} {K : R → Prop} (hb : ∀ s x, b s = some x → zKL P K x → P s) {s : S} {r : R} (h : zloop b s = some r) (hk : K r) : P s := by
  obtain ⟨n, hn⟩ := zloop_some.mp h
  clear h
  induction n generalizing s with
  | zero => cases hn
  | succ n ih =>
    unfold ziter at hn
    cases hx : b s with
    | none => rw [hx] at hn; cases hn
    | some x =>
      rw [hx] at hn
      cases x with
      | inl s' => exact hb s _ hx (ih hn)
      | inr r' =>
        cases hn
        exact hb s _ hx hk
section Y2
variable {g : zG} {M M' : zT} {lv pc : Nat} {ls : List (Nat × zV)} {st : List zV} {σ : zM} {out : zO}
/-- a name for what lies on top -/
theorem gj_nm {x e : Int} {t : Nat} (h : x = e) (k : Gj g M lv pc ls ((t, x) :: st) σ out) : Gj g M lv pc ls ((t, e) :: st) σ out := h ▸ k
theorem gj_iincN {i : Nat} {n : Int} {ls' : List (Nat × zV)} (k : Nat) {a x : Int} (hx : x = zadd a n) (hd : decode M.2.1 pc = .ok (.iinc i n, 3)) (hk : ls[k]? = some (i, zi a)) (hi : i < M.2.2.1) (hl : zsto i (zi x) ls = ls') (kk : Gj g M lv (pc + 3) ls' st σ out) : Gj g M lv pc ls st σ out := gj_iinc k hd hk hi (by rw [← hx]; exact hl) kk
/-- what is known of a field by its number -/
def zfl (f t : Nat) (C n d : String) (fin : Bool) : Prop := zfok f = true ∧ ztag (zft f) = t ∧ zfs f = (C, n, d, fin)
theorem gj_get {f t idx : Nat} {C n d ref : String} {fin : Bool} {a v : Int} (hz : zfl f t C n d fin) (hv : zgf σ f a = some v) (hd : decode M.2.1 pc = .ok (.getfield idx, 3)) (hq : Cond.fieldLink M.1.cls idx ref n d ∈ lw_all) (hs : ref = C ∨ Cond.sameField ref C n d ∈ lw_all)
    (k : Gj g M lv (pc + 3) ls ((t, v) :: st) σ out) : Gj g M lv pc ls (zr a :: st) σ out := by
  obtain ⟨h1, h2, h3⟩ := hz
  refine gj_getf (ref := ref) h1 hv hd (by rw [h3]; exact hq) (by unfold zsame; rw [h3]; exact hs) ?_
  rw [h2]; exact k
theorem gj_getNe {f t idx : Nat} {C n d ref host : String} {fin : Bool} {a v : Int} (hz : zfl f t C n d fin) (hv : zgf σ f a = some v) (hd : decode M.2.1 pc = .ok (.getfield idx, 3)) (hq : Cond.fieldLinkNest M.1.cls idx ref n d host ∈ lw_tbl) (hs : ref = C ∨ Cond.sameField ref C n d ∈ lw_all)
    (k : Gj g M lv (pc + 3) ls ((t, v) :: st) σ out) : Gj g M lv pc ls (zr a :: st) σ out := by
  obtain ⟨h1, h2, h3⟩ := hz
  refine gj_getN (ref := ref) (host := host) h1 hv hd (by rw [h3]; exact hq) (by unfold zsame; rw [h3]; exact hs) ?_
  rw [h2]; exact k
theorem gj_put {f t idx : Nat} {C n d ref : String} {a v : Int} {σ' : zM} (hz : zfl f t C n d false) (hv : zpf σ f a v = some σ') (hr : zok g (t, v) → zokt g (zft f) v) (hd : decode M.2.1 pc = .ok (.putfield idx, 3)) (hq : Cond.fieldLink M.1.cls idx ref n d ∈ lw_all) (hs : ref = C ∨ Cond.sameField ref C n d ∈ lw_all)
    (k : Gj g M lv (pc + 3) ls st σ' out) : Gj g M lv pc ls ((t, v) :: zr a :: st) σ out := by
  obtain ⟨h1, h2, h3⟩ := hz
  subst h2
  exact gj_putf (ref := ref) h1 hv (by rw [h3]) hr hd (by rw [h3]; exact hq) (by unfold zsame; rw [h3]; exact hs) k
theorem gj_putNe {f t idx : Nat} {C n d ref host : String} {a v : Int} {σ' : zM} (hz : zfl f t C n d false) (hv : zpf σ f a v = some σ') (hr : zok g (t, v) → zokt g (zft f) v) (hd : decode M.2.1 pc = .ok (.putfield idx, 3)) (hq : Cond.fieldLinkNest M.1.cls idx ref n d host ∈ lw_tbl) (hs : ref = C ∨ Cond.sameField ref C n d ∈ lw_all)
    (k : Gj g M lv (pc + 3) ls st σ' out) : Gj g M lv pc ls ((t, v) :: zr a :: st) σ out := by
  obtain ⟨h1, h2, h3⟩ := hz
  subst h2
  exact gj_putN (ref := ref) (host := host) h1 hv (by rw [h3]) hr hd (by rw [h3]; exact hq) (by unfold zsame; rw [h3]; exact hs) k
theorem gj_putFi {f t idx : Nat} {C n d ref : String} {a v : Int} {σ' : zM} (hz : zfl f t C n d true) (hv : zpf σ f a v = some σ') (hin : M.1.name = "<init>") (hdc : C = M.1.cls) (hr : zok g (t, v) → zokt g (zft f) v) (hd : decode M.2.1 pc = .ok (.putfield idx, 3)) (hq : Cond.fieldLink M.1.cls idx ref n d ∈ lw_all) (hs : ref = C ∨ Cond.sameField ref C n d ∈ lw_all)
    (k : Gj g M lv (pc + 3) ls st σ' out) : Gj g M lv pc ls ((t, v) :: zr a :: st) σ out := by
  obtain ⟨h1, h2, h3⟩ := hz
  subst h2
  exact gj_putF (ref := ref) h1 hv (by rw [h3]) hin (by rw [h3]; exact hdc) hr hd (by rw [h3]; exact hq) (by unfold zsame; rw [h3]; exact hs) k
/-- calls by what they return -/
theorem gj_callI {as rest : List zV} {len : Nat} {v : Int} {σ' : zM} (hl : zLk g M pc len M' as rest σ) (hC : Cj g lv M' as σ (0, zi v, σ')) (q : zcodeW M' ∈ lw_all ∧ Cond.initialized M'.1.cls ∈ lw_all) (hw : (rest.map (fun v => if v.1 = 1 then 2 else 1)).sum + M'.2.2.1 ≤ 35)
    (k : Gj g M (lv + 1) (pc + len) ls (zi v :: rest) σ' out) : Gj g M (lv + 1) pc ls (as.reverse ++ rest) σ out := gj_callR hl hC q.1 q.2 hw k
theorem gj_callJ {as rest : List zV} {len : Nat} {v : Int} {σ' : zM} (hl : zLk g M pc len M' as rest σ) (hC : Cj g lv M' as σ (0, zj v, σ')) (q : zcodeW M' ∈ lw_all ∧ Cond.initialized M'.1.cls ∈ lw_all) (hw : (rest.map (fun v => if v.1 = 1 then 2 else 1)).sum + M'.2.2.1 ≤ 35)
    (k : Gj g M (lv + 1) (pc + len) ls (zj v :: rest) σ' out) : Gj g M (lv + 1) pc ls (as.reverse ++ rest) σ out := gj_callR hl hC q.1 q.2 hw k
theorem gj_callA {as rest : List zV} {len : Nat} {v : Int} {σ' : zM} (hl : zLk g M pc len M' as rest σ) (hC : Cj g lv M' as σ (0, zr v, σ')) (q : zcodeW M' ∈ lw_all ∧ Cond.initialized M'.1.cls ∈ lw_all) (hw : (rest.map (fun v => if v.1 = 1 then 2 else 1)).sum + M'.2.2.1 ≤ 35)
    (k : Gj g M (lv + 1) (pc + len) ls (zr v :: rest) σ' out) : Gj g M (lv + 1) pc ls (as.reverse ++ rest) σ out := gj_callR hl hC q.1 q.2 hw k
theorem gj_callV {as rest : List zV} {len : Nat} {σ' : zM} (hl : zLk g M pc len M' as rest σ) (hC : Cj g lv M' as σ (0, (3, 0), σ')) (q : zcodeW M' ∈ lw_all ∧ Cond.initialized M'.1.cls ∈ lw_all) (hw : (rest.map (fun v => if v.1 = 1 then 2 else 1)).sum + M'.2.2.1 ≤ 35)
    (k : Gj g M (lv + 1) (pc + len) ls rest σ' out) : Gj g M (lv + 1) pc ls (as.reverse ++ rest) σ out := gj_callR hl hC q.1 q.2 hw k
theorem gj_callX {as rest : List zV} {len k : Nat} {v : Int} {σ' : zM} (hl : zLk g M pc len M' as rest σ) (hC : Cj g lv M' as σ (k + 1, zr v, σ')) (q : zcodeW M' ∈ lw_all ∧ Cond.initialized M'.1.cls ∈ lw_all) (hw : (rest.map (fun v => if v.1 = 1 then 2 else 1)).sum + M'.2.2.1 ≤ 35)
    (hcov : M.2.2.2.2.all (fun h => !(decide (h.1 ≤ pc) && decide (pc < h.2.1))) = true) : Gj g M (lv + 1) pc ls (as.reverse ++ rest) σ (k + 1, zr v, σ') := gj_callT hl hC q.1 q.2 hw hcov
theorem gj_enumL {i idx : Nat} {a : Int} {n ref : String} (hi : i < 11) (ha : (-2 - (i : Int)) = a) (hn : zkinds.getD i "" = n) (hd : decode M.2.1 pc = .ok (.getstatic idx, 3)) (hq : Cond.fieldLink M.1.cls idx ref n "LLassoFinder$Kind;" ∈ lw_all) (hs : ref = "LassoFinder$Kind")
    (k : Gj g M lv (pc + 3) ls (zr a :: st) σ out) : Gj g M lv pc ls st σ out := by
  subst ha
  exact gj_enum hi hn hd hq hs k
/-- arguments as locals -/
def zarg : Nat → List zV → List (Nat × zV)
  | _, [] => []
  | n, v :: t => (n, v) :: zarg (n + if v.1 = 1 then 2 else 1) t
theorem zarg_eq (g : zG) : ∀ (as : List zV) (n : Nat), lv_args n (as.map (zval g)) = (zarg n as).map fun q => (q.1, zval g q.2) := by
  intro as
  induction as with
  | nil => intro n; rfl
  | cons v t ih =>
    intro n
    simp only [List.map_cons, zarg, lv_args]
    rw [ih, zcat]
    by_cases h : v.1 = 1 <;> simp [h]
theorem zarg_ok {as : List zV} (h : ∀ v ∈ as, zok g v) : ∀ (n : Nat), ∀ q ∈ zarg n as, zok g q.2 := by
  induction as with
  | nil => intro n q hq; cases hq
  | cons v t ih =>
    intro n q hq
    rcases List.mem_cons.mp hq with rfl | hq
    · exact h v List.mem_cons_self
    · exact ih (fun v hv => h v (List.mem_cons_of_mem _ hv)) _ q hq
theorem zsl_len (g : zG) (as : List zV) : (lg_sl (as.map (zval g))).length = (as.map (fun v => if v.1 = 1 then 2 else 1)).sum := by
  induction as with
  | nil => rfl
  | cons v t ih =>
    simp only [lg_sl, List.map_cons, List.flatMap_cons, List.length_append, List.sum_cons] at ih ⊢
    rw [ih, zcat]
    by_cases h : v.1 = 1 <;> simp [h]
theorem cj_go {as : List zV} {ls : List (Nat × zV)} (hy : plainName M.1.cls = true) (hL : (as.map (fun v => if v.1 = 1 then 2 else 1)).sum ≤ M.2.2.1) (hls : zarg 0 as = ls) (k : Gj g M lv 0 ls [] σ out) : Cj g lv M as σ out := by
  subst hls
  exact cj_of hy rfl (by rw [zsl_len]; exact hL) (zarg_eq g as 0) (fun h => zarg_ok h 0) k
end Y2

set_option maxRecDepth 100000
/-! the script -/
def zsx (L : Nat) (X : Nat → Int) (i : Int) : Option Int := if 0 ≤ i ∧ i < L then some (X i.toNat) else none
def zXi (g : zG) : Nat → Int := fun i => (zX g i).toInt
section Z2
variable {g : zG} {M : zT} {lv pc : Nat} {ls : List (Nat × zV)} {st : List zV} {σ : zM} {out : zO} {α : Type} {r : α}
theorem zscr {H : Heap} {s : State} (h1 : zgok g) (hW : (zs g).WarmedH s.vm) (h3 : zHp g σ H) : va_X (zb g) (zL g) (zX g) s H := (h1.2.2.2.2.1.moved hW.alike).kept (h3.2.2.1 _ h1.2.2.2.2.2.1)
theorem zref20 (h1 : zgok g) : zref g (-20) = .ref (zb g) := by
  unfold zref
  rw [if_neg (by omega), if_neg (by omega)]
  show Value.ref (zad g 18) = _
  rw [h1.2.2.2.2.2.2.1]
theorem gj_slen (hd : decode M.2.1 pc = .ok (.arraylength, 1)) (k : Gj g M lv (pc + 1) ls (zi (zL g) :: st) σ out) : Gj g M lv pc ls (zq (-20) :: st) σ out := by
  intro p e s m args below meth c H locs lc σs ⟨h1, h2, h3, h4, h5, h6, h7, h8, h9, h10, h11⟩
  have hcx := h2
  obtain ⟨hx, hb, hml, hrr, hlk, hown, hnm, hW, hh, hsz⟩ := hcx
  have hL : zL g ≤ 192 := h1.2.2.2.2.2.2.2.1
  have K := k p e s m args below meth c H locs lc σs ⟨h1, h2, h3, h4, h5, h6, h7, h8, h9, h10, zmem (by simp only [zok]; simp; omega) (ztl h11)⟩
  obtain ⟨scr, q1, q2, q3, q4, q5⟩ := zscr h1 hW h3
  simp only [List.map_cons, show zval g (zq (-20)) = zref g (-20) from rfl, zref20 h1]
  simp only [List.map_cons, zval_i] at K
  exact W.alen (n := Int32.ofNat (zL g)) hx hb q1 q2 (by rw [q4] <;> rfl) rfl rfl hd K
theorem gj_sld {i v : Int} (hv : zsx (zL g) (zXi g) i = some v) (hd : decode M.2.1 pc = .ok (.iaload, 1)) (k : Gj g M lv (pc + 1) ls (zi v :: st) σ out) : Gj g M lv pc ls (zi i :: zq (-20) :: st) σ out := by
  intro p e s m args below meth c H locs lc σs ⟨h1, h2, h3, h4, h5, h6, h7, h8, h9, h10, h11⟩
  have hcx := h2
  obtain ⟨hx, hb, hml, hrr, hlk, hown, hnm, hW, hh, hsz⟩ := hcx
  have hL : zL g ≤ 192 := h1.2.2.2.2.2.2.2.1
  unfold zsx at hv
  split at hv
  · rename_i hr
    cases hv
    have K := k p e s m args below meth c H locs lc σs ⟨h1, h2, h3, h4, h5, h6, h7, h8, h9, h10, zmem (zok_int g _) (ztl (ztl h11))⟩
    obtain ⟨scr, q1, q2, q3, q4, q5⟩ := zscr h1 hW h3
    simp only [List.map_cons, show zval g (zq (-20)) = zref g (-20) from rfl, zref20 h1, zval_i]
    simp only [List.map_cons] at K
    rw [show zval g (zi (zXi g i.toNat)) = .int (zX g i.toNat) from zval_int g _] at K
    have e : (Int32.ofInt i).toNatClampNeg = i.toNat := zcl_nat hr.1 (by omega)
    refine W.iald (v := .int (zX g i.toNat)) hx hb q1 q2 q3 ?_ (by rw [e]; exact q5 _ (by omega)) rfl rfl hd K
    rw [q4, e]
    rw [Int32.lt_iff_toInt_lt, Int32.toInt_ofInt_of_le (by omega) (by omega)]
    rintro (h | h)
    · exact absurd h (Int.not_lt.mpr hr.1)
    · omega
  · cases hv
theorem gb_sld {i : Int} {f : Int → Option α} (hd : decode M.2.1 pc = .ok (.iaload, 1)) (kk : ∀ v, f v = some r → Gj g M lv (pc + 1) ls (zi v :: st) σ out) : (zsx (zL g) (zXi g) i).bind f = some r → Gj g M lv pc ls (zi i :: zq (-20) :: st) σ out := fun h => by
  obtain ⟨v, hv, h⟩ := zbE h
  exact gj_sld hv hd (kk v h)
end Z2

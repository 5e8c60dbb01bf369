set_option maxRecDepth 100000
/-- arrays in the memory -/
def zga (σ : zM) (k : Nat) (a i : Int) : Option Int := if 0 ≤ a ∧ (zK σ a.toNat).1 = k ∧ 0 ≤ i ∧ i < (zK σ a.toNat).2 then some (zA σ a.toNat i.toNat) else none
def zsA (σ : zM) (a i : Nat) (v : Int) : zM := (zF σ, fun a' i' => if a' = a ∧ i' = i then v else zA σ a' i', σ.2.2)
def zpa (σ : zM) (k : Nat) (a i v : Int) : Option zM := if 0 ≤ a ∧ (zK σ a.toNat).1 = k ∧ 0 ≤ i ∧ i < (zK σ a.toNat).2 then some (zsA σ a.toNat i.toNat v) else none
def zla (σ : zM) (k : Nat) (a : Int) : Option Int := if 0 ≤ a ∧ (zK σ a.toNat).1 = k then some (zK σ a.toNat).2 else none
/-- what an array of references takes -/
def zfit (k : Nat) (kc : Nat) : Bool := match k with
  | 105 => kc == 12
  | 106 => kc == 12
  | 107 => kc == 5
  | 108 => kc == 19
  | 109 => kc == 16
  | _ => false
def zpr (σ : zM) (k : Nat) (a i v : Int) : Option zM := if v = -1 ∨ (0 ≤ v ∧ zfit k (zK σ v.toNat).1 = true) then zpa σ k a i v else none
section R5
variable {g : zG} {M : zT} {lv pc : Nat} {ls : List (Nat × zV)} {st : List zV} {σ : zM} {out : zO}
theorem zga_some {k : Nat} {a i v : Int} (h : zga σ k a i = some v) : 0 ≤ a ∧ (zK σ a.toNat).1 = k ∧ 0 ≤ i ∧ i < (zK σ a.toNat).2 ∧ v = zA σ a.toNat i.toNat := by
  unfold zga at h
  split at h
  · rename_i h1
    cases h
    exact ⟨h1.1, h1.2.1, h1.2.2.1, h1.2.2.2, rfl⟩
  · cases h
theorem zpa_some {k : Nat} {a i v : Int} {σ' : zM} (h : zpa σ k a i v = some σ') : 0 ≤ a ∧ (zK σ a.toNat).1 = k ∧ 0 ≤ i ∧ i < (zK σ a.toNat).2 ∧ σ' = zsA σ a.toNat i.toNat v := by
  unfold zpa at h
  split at h
  · rename_i h1
    cases h
    exact ⟨h1.1, h1.2.1, h1.2.2.1, h1.2.2.2, rfl⟩
  · cases h
theorem zpr_some {k : Nat} {a i v : Int} {σ' : zM} (h : zpr σ k a i v = some σ') : (v = -1 ∨ (0 ≤ v ∧ zfit k (zK σ v.toNat).1 = true)) ∧ zpa σ k a i v = some σ' := by
  unfold zpr at h
  split at h
  · rename_i h1
    exact ⟨h1, h⟩
  · cases h
theorem zarr_at {H : Heap} {k : Nat} {a : Int} (hH : zHp g σ H) (hk : (zK σ a.toNat).1 = k) (h101 : 101 ≤ k) : zB g ≤ a.toNat ∧ zarr g σ k (zK σ a.toNat).2 a.toNat H := by
  obtain ⟨hb, hc⟩ := hH.2.2.2 a.toNat (by omega)
  unfold zcell at hc
  rw [if_neg (by omega), if_neg (by omega), hk] at hc
  exact ⟨hb, hc⟩
theorem zcl_nat {i : Int} (h0 : 0 ≤ i) (h : i < 2147483648) : (Int32.ofInt i).toNatClampNeg = i.toNat := by
  show (Int32.ofInt i).toInt.toNat = i.toNat
  rw [Int32.toInt_ofInt_of_le (by omega) (by omega)]
theorem zidx {i : Int} {n : Nat} (h0 : 0 ≤ i) (h : i < n) (hn : n < 2147483648) : ¬ (Int32.ofInt i < 0 ∨ n ≤ (Int32.ofInt i).toNatClampNeg) := by
  rw [zcl_nat h0 (by omega), Int32.lt_iff_toInt_lt, Int32.toInt_ofInt_of_le (by omega) (by omega)]
  have e : (0 : Int32).toInt = 0 := rfl
  rw [e]
  omega
theorem zarr_of {s : State} {k n : Nat} {z : Nat → Value} (hg : zgok g) (hW : (zs g).WarmedH s.vm) (h1 : 101 ≤ k) (h2 : k ≤ 110) : s.isArrayOf (arrV (zY g k) n z) (zaty k) :=
  arrOfT_moved hW.alike (hg.2.2.1 k h1 h2).1 n z
/-- reading a place -/
theorem gj_ald {ins : Instr} {k : Nat} {a i v : Int} (h101 : 101 ≤ k) (hv : zga σ k a i = some v)
    (row : ∀ {p : Program} {l : Launch} {e : Env} {R : Room} {s : State} {m : MethodId} {args : Array Value} {below : List Frame} {meth : Method} {c : Code} {H : Heap} {locs : List Loc} {cells slots : Nat} {Q : State → Prop} {cc : ByteArray} {pc : Nat} {lc : Array Slot} {rest : List Value}, p.tables.exec = Jvm.exec → c.code = cc → ∀ {ad : Addr} {cell : Cell} {j : Int32} {v : Value}, H[ad]? = some cell → s.isArrayOf cell (zaty k) → cell.vm ≠ .unknown → ¬ (j < 0 ∨ cell.slots.size ≤ j.toNatClampNeg) → cell.slots[j.toNatClampNeg]? = some v → decode cc pc = .ok (ins, 1) → W p l e R s m args below meth c H locs cells slots Q (F0 m (pc + 1) lc (v :: rest)) → W p l e R s m args below meth c H locs cells slots Q (F0 m pc lc (.int j :: .ref ad :: rest)))
    (hd : decode M.2.1 pc = .ok (ins, 1)) (kk : Gj g M lv (pc + 1) ls ((ztag (zaty k), v) :: st) σ out) : Gj g M lv pc ls (zi i :: zr a :: st) σ out := by
  intro p e s m args below meth c H locs lc σs ⟨h1, h2, h3, h4, h5, h6, h7, h8, h9, h10, h11⟩
  have hc := h2
  obtain ⟨hx, hb, hml, hr, hlk, hown, hnm, hW, hh, hsz⟩ := hc
  obtain ⟨ha, hk, hi0, hi, rfl⟩ := zga_some hv
  obtain ⟨hb', q1, q2, q3, q4⟩ := zarr_at h3 hk h101
  simp only [List.map_cons, zval_r, zref_at g ha, zval_i]
  refine row hx hb q1 (zarr_of h1 hW h101 q3) (fun h => by cases h) ?_ ?_ hd (v := zval g (ztag (zaty k), zA σ a.toNat i.toNat)) (kk p e s m args below meth c H locs lc σs ⟨h1, h2, h3, h4, h5, h6, h7, h8, h9, h10, zmem (zok_of (q4 _ (by omega))) (ztl (ztl h11))⟩)
  · rw [arrV_size]; exact zidx hi0 hi q2
  · rw [zcl_nat hi0 (by omega), arrV_read _ _ (by omega)]
theorem gj_iald {a i v : Int} (hv : zga σ 101 a i = some v) (hd : decode M.2.1 pc = .ok (.iaload, 1)) (kk : Gj g M lv (pc + 1) ls (zi v :: st) σ out) : Gj g M lv pc ls (zi i :: zr a :: st) σ out :=
  gj_ald (ins := .iaload) (by omega) hv (fun hx hb _ _ _ _ hc ha hu hi hv hd k => W.iald hx hb hc ha hu hi hv rfl rfl hd k) hd kk
theorem gj_lald {a i v : Int} (hv : zga σ 102 a i = some v) (hd : decode M.2.1 pc = .ok (.laload, 1)) (kk : Gj g M lv (pc + 1) ls (zj v :: st) σ out) : Gj g M lv pc ls (zi i :: zr a :: st) σ out :=
  gj_ald (ins := .laload) (by omega) hv (fun hx hb _ _ _ _ hc ha hu hi hv hd k => W.lald hx hb hc ha hu hi hv rfl rfl hd k) hd kk
theorem gj_zald {a i v : Int} (hv : zga σ 103 a i = some v) (hd : decode M.2.1 pc = .ok (.baload, 1)) (kk : Gj g M lv (pc + 1) ls (zi v :: st) σ out) : Gj g M lv pc ls (zi i :: zr a :: st) σ out :=
  gj_ald (ins := .baload) (by omega) hv (fun hx hb _ _ _ _ hc ha hu hi hv hd k => W.zald hx hb hc ha hu hi hv rfl rfl hd k) hd kk
theorem gj_bald {a i v : Int} (hv : zga σ 104 a i = some v) (hd : decode M.2.1 pc = .ok (.baload, 1)) (kk : Gj g M lv (pc + 1) ls (zi v :: st) σ out) : Gj g M lv pc ls (zi i :: zr a :: st) σ out :=
  gj_ald (ins := .baload) (by omega) hv (fun hx hb _ _ _ _ hc ha hu hi hv hd k => W.bald hx hb hc ha hu hi hv rfl rfl hd k) hd kk
theorem gj_aald {k : Nat} {a i v : Int} (hk : 105 ≤ k ∧ k ≤ 110) (hv : zga σ k a i = some v) (hd : decode M.2.1 pc = .ok (.aaload, 1)) (kk : Gj g M lv (pc + 1) ls (zr v :: st) σ out) : Gj g M lv pc ls (zi i :: zr a :: st) σ out := by
  have ht : ztag (zaty k) = 2 ∧ (zaty k).isReference = true := by
    have : k = 105 ∨ k = 106 ∨ k = 107 ∨ k = 108 ∨ k = 109 ∨ k = 110 := by omega
    rcases this with h | h | h | h | h | h <;> subst h <;> exact ⟨rfl, rfl⟩
  refine gj_ald (ins := .aaload) (by omega) hv (fun hx hb _ _ _ _ hc ha hu hi hv hd k => W.aald hx hb hc ha ht.2 hu hi hv rfl rfl hd k) hd ?_
  rw [ht.1]
  exact kk
theorem gj_alen {k : Nat} {a n : Int} (h101 : 101 ≤ k) (hv : zla σ k a = some n) (hd : decode M.2.1 pc = .ok (.arraylength, 1)) (kk : Gj g M lv (pc + 1) ls (zi n :: st) σ out) : Gj g M lv pc ls (zr a :: st) σ out := by
  intro p e s m args below meth c H locs lc σs ⟨h1, h2, h3, h4, h5, h6, h7, h8, h9, h10, h11⟩
  have hc := h2
  obtain ⟨hx, hb, hml, hr, hlk, hown, hnm, hW, hh, hsz⟩ := hc
  unfold zla at hv
  split at hv
  · rename_i hq
    obtain ⟨ha, hk⟩ := hq
    cases hv
    obtain ⟨hb', q1, q2, q3, q4⟩ := zarr_at h3 hk h101
    simp only [List.map_cons, zval_r, zref_at g ha]
    refine W.alen hx hb q1 (zarr_of h1 hW h101 q3) (n := Int32.ofInt (zK σ a.toNat).2) ?_ rfl rfl hd ?_
    · rw [arrV_size]; rfl
    · have := kk p e s m args below meth c H locs lc σs ⟨h1, h2, h3, h4, h5, h6, h7, h8, h9, h10, zmem (by simp only [zok, if_true]; omega) (ztl h11)⟩
      simpa only [List.map_cons, zval_i] using this
  · cases hv
/-- a place is written -/
theorem zHp_sto {H H' : Heap} {k i a : Nat} {v : Int} (hH : zHp g σ H) (hk : (zK σ a).1 = k) (h101 : 101 ≤ k) (e7 : zB g ≤ a) (q : zarr g σ k (zK σ a).2 a H) (hv : zokt g (zaty k) v)
    (w1 : H'[a]? = some ((arrV (zY g k) (zK σ a).2 (fun j => zval g (ztag (zaty k), zA σ a j))).setSlot i (zval g (ztag (zaty k), v)))) (w2 : H'.size = H.size) (w3 : ∀ q, q ≠ a → H'[q]? = H[q]?) : zHp g (zsA σ a i v) H' := by
  refine ⟨w2.trans hH.1, hH.2.1, fun q hq => ?_, fun a' ha' => ?_⟩
  · rw [w3 q (by omega)]
    exact hH.2.2.1 q hq
  · obtain ⟨b1, b2⟩ := hH.2.2.2 a' ha'
    refine ⟨b1, ?_⟩
    by_cases haa : a' = a
    · subst haa
      unfold zcell
      rw [show zK (zsA σ a' i v) a' = zK σ a' from rfl, if_neg (by omega), if_neg (by omega), hk]
      refine ⟨?_, q.2.1, q.2.2.1, fun j hj => ?_⟩
      · rw [w1, arrV_store]
        congr 2
        funext j
        unfold updV
        show _ = zval g (ztag (zaty k), if a' = a' ∧ j = i then v else _)
        by_cases hj : j = i
        · rw [if_pos hj, if_pos ⟨rfl, hj⟩]
        · rw [if_neg hj, if_neg (fun h => hj h.2)]
      · show zokt g (zaty k) (if a' = a' ∧ j = i then v else _)
        by_cases hj' : j = i
        · rw [if_pos ⟨rfl, hj'⟩]; exact hv
        · rw [if_neg (fun h => hj' h.2)]; exact q.2.2.2 j hj
    · refine zcell_kept b2 rfl (fun f' => rfl) ?_ (w3 a' haa)
      funext j
      show (if a' = a ∧ j = i then v else _) = _
      rw [if_neg (fun h => haa h.1)]
theorem gj_ast {ins : Instr} {k : Nat} {a i v : Int} {σ' : zM} (h101 : 101 ≤ k) (hv : zpa σ k a i v = some σ') (hr : zok g (ztag (zaty k), v) → zokt g (zaty k) v)
    (row : ∀ {p : Program} {l : Launch} {e : Env} {R : Room} {s : State} {m : MethodId} {args : Array Value} {below : List Frame} {meth : Method} {c : Code} {H : Heap} {locs : List Loc} {cells slots : Nat} {Q : State → Prop} {cc : ByteArray} {pc : Nat} {lc : Array Slot} {rest : List Value}, p.tables.exec = Jvm.exec → c.code = cc → (zs g).WarmedH s.vm → zgok g → zHp g σ H → ∀ {ad : Addr} {n : Nat} {f : Nat → Value} {j : Int32}, H[ad]? = some (arrV (zY g k) n f) → k ≤ 110 → ¬ (j < 0 ∨ (arrV (zY g k) n f).slots.size ≤ j.toNatClampNeg) → zokt g (zaty k) v → decode cc pc = .ok (ins, 1) →
      (∀ H' : Heap, H'[ad]? = some ((arrV (zY g k) n f).setSlot j.toNatClampNeg (zval g (ztag (zaty k), v))) → H'.size = H.size → (∀ q, q ≠ ad → H'[q]? = H[q]?) → W p l e R s m args below meth c H' (locs ++ [⟨ad, j.toNatClampNeg⟩]) cells slots Q (F0 m (pc + 1) lc rest)) → W p l e R s m args below meth c H locs cells slots Q (F0 m pc lc (zval g (ztag (zaty k), v) :: .int j :: .ref ad :: rest)))
    (hd : decode M.2.1 pc = .ok (ins, 1)) (kk : Gj g M lv (pc + 1) ls st σ' out) : Gj g M lv pc ls ((ztag (zaty k), v) :: zi i :: zr a :: st) σ out := by
  intro p e s m args below meth c H locs lc σs ⟨h1, h2, h3, h4, h5, h6, h7, h8, h9, h10, h11⟩
  have hc := h2
  obtain ⟨hx, hb, hml, hret, hlk, hown, hnm, hW, hh, hsz⟩ := hc
  obtain ⟨ha, hk, hi0, hi, rfl⟩ := zpa_some hv
  have hz := zarr_at h3 hk h101
  have hy := hz
  obtain ⟨hb', q1, q2, q3, q4⟩ := hy
  simp only [List.map_cons, zval_r, zref_at g ha, zval_i]
  refine row hx hb hW h1 h3 q1 q3 ?_ (hr (zhd h11)) hd (fun H' w1 w2 w3 => ?_)
  · rw [arrV_size]; exact zidx hi0 hi q2
  · rw [zcl_nat hi0 (by omega)] at w1
    exact kk p e s m args below meth c H' _ lc σs ⟨h1, h2, zHp_sto h3 hk h101 hb' hz.2 (hr (zhd h11)) w1 w2 w3, zlocs h4 hb', h5, h6, h7, h8, h9, h10, ztl (ztl (ztl h11))⟩
theorem gj_iast {a i v : Int} {σ' : zM} (hv : zpa σ 101 a i v = some σ') (hd : decode M.2.1 pc = .ok (.iastore, 1)) (kk : Gj g M lv (pc + 1) ls st σ' out) : Gj g M lv pc ls (zi v :: zi i :: zr a :: st) σ out :=
  gj_ast (k := 101) (ins := .iastore) (by omega) hv (fun h => by simpa [zok, zokt, zaty, ztag] using h) (fun hx hb hW hg _ _ _ _ _ hc hk hi _ hd k => by
    rw [show zval g (ztag (zaty 101), v) = .int (Int32.ofInt v) from zval_i g v] at k ⊢
    exact W.iast hx hb hc (zarr_of hg hW (by omega) hk) (fun h => by cases h) hi rfl rfl hd k) hd kk
theorem gj_last {a i v : Int} {σ' : zM} (hv : zpa σ 102 a i v = some σ') (hd : decode M.2.1 pc = .ok (.lastore, 1)) (kk : Gj g M lv (pc + 1) ls st σ' out) : Gj g M lv pc ls (zj v :: zi i :: zr a :: st) σ out :=
  gj_ast (k := 102) (ins := .lastore) (by omega) hv (fun h => by simpa [zok, zokt, zaty, ztag] using h) (fun hx hb hW hg _ _ _ _ _ hc hk hi _ hd k => by
    rw [show zval g (ztag (zaty 102), v) = .long (Int64.ofInt v) from zval_j g v] at k ⊢
    exact W.last hx hb hc (zarr_of hg hW (by omega) hk) (fun h => by cases h) hi rfl rfl hd k) hd kk
theorem gj_zast {a i v : Int} {σ' : zM} (hv : zpa σ 103 a i v = some σ') (h01 : v = 0 ∨ v = 1) (hd : decode M.2.1 pc = .ok (.bastore, 1)) (kk : Gj g M lv (pc + 1) ls st σ' out) : Gj g M lv pc ls (zi v :: zi i :: zr a :: st) σ out :=
  gj_ast (k := 103) (ins := .bastore) (by omega) hv (fun _ => h01) (fun hx hb hW hg _ _ _ _ _ hc hk hi ho hd k => by
    have hn := (znf (g := g) (t := .boolean) rfl ho).1
    rw [show zval g (ztag (zaty 103), v) = .int (Int32.ofInt v) from zval_i g v] at k ⊢
    rw [show zval g (ztag .boolean, v) = .int (Int32.ofInt v) from zval_i g v] at hn
    exact W.zast hx hb hc (zarr_of hg hW (by omega) hk) (fun h => by cases h) hi rfl rfl hd (by rw [hn]; exact k)) hd kk
theorem gj_bast {a i v : Int} {σ' : zM} (hv : zpa σ 104 a i v = some σ') (h01 : -128 ≤ v ∧ v < 128) (hd : decode M.2.1 pc = .ok (.bastore, 1)) (kk : Gj g M lv (pc + 1) ls st σ' out) : Gj g M lv pc ls (zi v :: zi i :: zr a :: st) σ out :=
  gj_ast (k := 104) (ins := .bastore) (by omega) hv (fun _ => h01) (fun hx hb hW hg _ _ _ _ _ hc hk hi ho hd k => by
    have hn := (znf (g := g) (t := .byte) rfl ho).1
    rw [show zval g (ztag (zaty 104), v) = .int (Int32.ofInt v) from zval_i g v] at k ⊢
    rw [show zval g (ztag .byte, v) = .int (Int32.ofInt v) from zval_i g v] at hn
    exact W.bast hx hb hc (zarr_of hg hW (by omega) hk) (fun h => by cases h) hi rfl rfl hd (by rw [hn]; exact k)) hd kk
theorem zwC {g : zG} (hg : zgok g) {c t : String} (hw : Cond.castable c t ∈ lw_tbl) {U : State} (hW : (zs g).WarmedH U.vm) (a : Array Value) : (Cond.castable c t).before a U = true :=
  va_Nw.use rfl (va_Nw.warmC hW (va_Nw.of rfl (hg.1 _ hw)))
/-- an object of a class that an array takes -/
theorem zfit_as {k kc : Nat} (hf : zfit k kc = true) : ∃ (ci : Nat) (r : vw_C) (E : String), kc = ci + 1 ∧ ci ≤ 22 ∧ zcl[ci]? = some r ∧ zaty k = .object E ∧ (r.1 = E ∨ (r.1 = "LassoFinder$Statement" ∧ E = "java/lang/Object")) ∧ 105 ≤ k ∧ k ≤ 109 := by
  unfold zfit at hf
  split at hf
  · exact ⟨11, _, _, by simpa using hf, by omega, rfl, rfl, Or.inr ⟨rfl, rfl⟩, by omega, by omega⟩
  · exact ⟨11, _, _, by simpa using hf, by omega, rfl, rfl, Or.inl rfl, by omega, by omega⟩
  · exact ⟨4, _, _, by simpa using hf, by omega, rfl, rfl, Or.inl rfl, by omega, by omega⟩
  · exact ⟨18, _, _, by simpa using hf, by omega, rfl, rfl, Or.inl rfl, by omega, by omega⟩
  · exact ⟨15, _, _, by simpa using hf, by omega, rfl, rfl, Or.inl rfl, by omega, by omega⟩
  · cases hf
theorem q_castSO : (Jvm.Cond.castable "LassoFinder$Statement" "java/lang/Object") ∈ lw_tbl := lw_at lw_m10 214 rfl
theorem gj_aast {k : Nat} {a i v : Int} {σ' : zM} (hk : 105 ≤ k ∧ k ≤ 109) (hv : zpr σ k a i v = some σ') (hd : decode M.2.1 pc = .ok (.aastore, 1)) (kk : Gj g M lv (pc + 1) ls st σ' out) : Gj g M lv pc ls (zr v :: zi i :: zr a :: st) σ out := by
  have ht : ∃ E, zaty k = .object E := by
    have : k = 105 ∨ k = 106 ∨ k = 107 ∨ k = 108 ∨ k = 109 := by omega
    rcases this with h | h | h | h | h <;> subst h <;> exact ⟨_, rfl⟩
  obtain ⟨E, hE⟩ := ht
  have htag : ztag (zaty k) = 2 := by rw [hE]; rfl
  obtain ⟨hfit, hv⟩ := zpr_some hv
  have K := gj_ast (g := g) (M := M) (lv := lv) (pc := pc) (ls := ls) (st := st) (out := out) (k := k) (ins := .aastore) (by omega) hv (fun h => by rw [htag] at h; rw [hE]; simpa [zok, zokt] using h) (fun {p l e R s m args below meth c H locs cells slots Q cc pc lc rest} hx hb hW hg hH ad n f j hc hk hi _ hd k2 => by
    rw [show zval g (ztag (zaty k), v) = zref g v by rw [htag]; exact zval_r g v] at k2 ⊢
    rcases hfit with h1 | ⟨h0, h1⟩
    · rw [show zref g v = .null by rw [h1]; rfl] at k2 ⊢
      exact va_WaastN (C := E) hx hb hc (by rw [← hE]; exact zarr_of hg hW (by omega) hk) (fun h => by cases h) hi rfl rfl hd k2
    · rw [zref_at g h0] at k2 ⊢
      obtain ⟨ci, r, E', c1, c2, c3, c4, c5, -⟩ := zfit_as h1
      cases hE.symm.trans c4
      obtain ⟨hbv, hcv⟩ := hH.2.2.2 v.toNat (by omega)
      unfold zcell at hcv
      rw [if_pos (by omega), c1, Nat.add_sub_cancel] at hcv
      obtain ⟨r', c6, ⟨cellV, g1, g2, g3, -⟩, -⟩ := hcv
      cases c3.symm.trans c6
      obtain ⟨-, hfc, kC, hkC, hkind⟩ := (zva hg hW).1 ci _ c3
      have hRA := (hg.2.2.1 k (by omega) (by omega)).2.moved hW.alike
      rw [hE] at hRA
      obtain ⟨kA, comp, k1, k2', k3, -⟩ := hRA
      obtain ⟨kE, hkE, -⟩ := Vm.findClass_spec k3
      have has : s.vm.assignable (zC g ci) comp = true := by
        rcases c5 with c5 | ⟨c5, c7⟩
        · rw [c5] at hfc
          have : comp = zC g ci := Option.some.inj (k3.symm.trans hfc)
          rw [this]
          exact va_assign (s := s) (C := E) ⟨hfc, kC, hkC, hkind⟩
        · rw [c5] at hfc
          rw [c7] at k3
          obtain ⟨c0, t1, f1, f2, f3⟩ := Cond.castable_spec (zwC hg q_castSO hW #[])
          cases hfc.symm.trans f1
          cases k3.symm.trans f2
          exact f3
      exact W.aast hx hb hc (fun q h => by cases h) (fun h => by cases h) k1 k2' rfl hkE ⟨fun h => hi (Or.inl h), Nat.not_le.mp fun h => hi (Or.inr h)⟩ g1 (fun q h => by rw [g3] at h; cases h) (by rw [g2]; exact hkC) (by rw [g2]; exact has) rfl rfl hd k2) hd kk
  rw [htag] at K
  exact K
end R5

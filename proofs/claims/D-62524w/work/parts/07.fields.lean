set_option maxRecDepth 100000
/-- a word of the tables at a later state -/
theorem zw {g : zG} (hg : zgok g) {w : Cond} (hw : w ∈ lw_all) {U : State} (hW : (zs g).WarmedH U.vm) (a : Array Value) : w.before a U = true :=
  word_at hW (lw_self w hw).2 (hg.1 w (lw_all_tbl hw))
theorem zwF {g : zG} (hg : zgok g) {c r n d h : String} {i : Nat} (hw : Cond.fieldLinkNest c i r n d h ∈ lw_tbl) {U : State} (hW : (zs g).WarmedH U.vm) (a : Array Value) : (Cond.fieldLinkNest c i r n d h).before a U = true :=
  va_Nw.use rfl (va_Nw.warmF hW (va_Nw.of rfl (hg.1 _ hw)))
theorem zwM {g : zG} (hg : zgok g) {c h : String} {x : MethodName} {i : Nat} (hw : Cond.methodLinkNest c i x h ∈ lw_tbl) {U : State} (hW : (zs g).WarmedH U.vm) (a : Array Value) : (Cond.methodLinkNest c i x h).before a U = true :=
  va_Nw.use rfl (va_Nw.warmM hW (va_Nw.of rfl (hg.1 _ hw)))
theorem zva {g : zG} (hg : zgok g) {U : State} (hW : (zs g).WarmedH U.vm) : va_K (zC g, zI g) zcl [] U :=
  ⟨fun c q hq => u_Kn_moved hW.alike (hg.2.1 c q hq), fun k q hk => by simp at hk⟩
/-- what is known of a class -/
def zclk (ci : Nat) (r : vw_C) : Prop := (∀ w ∈ u_ws r.1 r.2.1 r.2.2, w ∈ lw_all) ∧ (∀ k, k < r.2.2 → parseFieldDescriptor (r.2.1 k).2.2.1 = some (zty ci k)) ∧ (∀ a, a < r.2.2 → ∀ b, b < r.2.2 → a ≠ b → (r.2.1 a).2.1 ≠ (r.2.1 b).2.1) ∧ (∀ k, k < r.2.2 → zgt (zty ci k) = true) ∧ r.2.2 < 100
theorem zclk_all : ∀ (ci : Nat) (r : vw_C), zcl[ci]? = some r → zclk ci r := by
  intro ci r h
  match ci, h with
  | 0, h => cases h; exact ⟨in_X1, tyX1_ok, nmX1, by decide +kernel, by decide⟩
  | 1, h => cases h; exact ⟨in_X1, tyX1_ok, nmX1, by decide +kernel, by decide⟩
  | 2, h => cases h; exact ⟨in_X2, tyX2_ok, nmX2, by decide +kernel, by decide⟩
  | 3, h => cases h; exact ⟨in_X3, tyX3_ok, nmX3, by decide +kernel, by decide⟩
  | 4, h => cases h; exact ⟨in_X4, tyX4_ok, nmX4, by decide +kernel, by decide⟩
  | 5, h => cases h; exact ⟨in_X1, tyX1_ok, nmX1, by decide +kernel, by decide⟩
  | 6, h => cases h; exact ⟨in_X6, tyX6_ok, nmX6, by decide +kernel, by decide⟩
  | 7, h => cases h; exact ⟨in_X7, tyX7_ok, nmX7, by decide +kernel, by decide⟩
  | 8, h => cases h; exact ⟨in_X8, tyX8_ok, nmX8, by decide +kernel, by decide⟩
  | 9, h => cases h; exact ⟨in_X9, tyX9_ok, nmX9, by decide +kernel, by decide⟩
  | 10, h => cases h; exact ⟨in_X1, tyX1_ok, nmX1, by decide +kernel, by decide⟩
  | 11, h => cases h; exact ⟨in_X11, tyX11_ok, nmX11, by decide +kernel, by decide⟩
  | 12, h => cases h; exact ⟨in_X12, tyX12_ok, nmX12, by decide +kernel, by decide⟩
  | 13, h => cases h; exact ⟨in_X13, tyX13_ok, nmX13, by decide +kernel, by decide⟩
  | 14, h => cases h; exact ⟨in_X14, tyX14_ok, nmX14, by decide +kernel, by decide⟩
  | 15, h => cases h; exact ⟨in_X15, tyX15_ok, nmX15, by decide +kernel, by decide⟩
  | 16, h => cases h; exact ⟨in_X16, tyX16_ok, nmX16, by decide +kernel, by decide⟩
  | 17, h => cases h; exact ⟨in_X17, tyX17_ok, nmX17, by decide +kernel, by decide⟩
  | 18, h => cases h; exact ⟨in_X18, tyX18_ok, nmX18, by decide +kernel, by decide⟩
  | 19, h => cases h; exact ⟨in_X19, tyX19_ok, nmX19, by decide +kernel, by decide⟩
  | 20, h => cases h; exact ⟨in_J1, tyJ1_ok, nmJ1, by decide +kernel, by decide⟩
  | 21, h => cases h; exact ⟨in_J2, tyJ2_ok, nmJ2, by decide +kernel, by decide⟩
  | 22, h => cases h; exact ⟨in_J6, tyJ6_ok, nmJ6, by decide +kernel, by decide⟩
  | n + 23, h => simp [zcl] at h
/-- fields by number -/
def zkf (f kc : Nat) : Bool := if f / 100 = 5 then kc == 7 || kc == 8 else kc == f / 100 + 1
def zfs (f : Nat) : String × String × String × Bool := if f / 100 = 5 then TX6 (f % 100) else ((zcl[f / 100]?).map (fun r => r.2.1 (f % 100))).getD (TX6 0)
def zft (f : Nat) : FieldType := if f / 100 = 5 then tyX6 (f % 100) else zty (f / 100) (f % 100)
def zfok (f : Nat) : Bool := if f / 100 = 5 then decide (f % 100 < 5) else decide (f % 100 < ((zcl[f / 100]?).map (fun r => r.2.2)).getD 0) && !((f / 100 == 6 || f / 100 == 7) && decide (f % 100 < 5))
theorem zfspec {f kc : Nat} (hf : zfok f = true) (hk : zkf f kc = true) : ∃ (ci k : Nat) (r : vw_C), zcl[ci]? = some r ∧ k < r.2.2 ∧ kc = ci + 1 ∧ zfid ci k = f ∧ r.2.1 k = zfs f ∧ zty ci k = zft f ∧ ci ≤ 22 := by
  unfold zkf at hk
  unfold zfok at hf
  by_cases h5 : f / 100 = 5
  · rw [if_pos h5] at hk hf
    have hlt : f % 100 < 5 := by simpa using hf
    have hT : ∀ k, k < 5 → TX7 k = TX6 k ∧ tyX7 k = tyX6 k := by
      intro k hk
      match k, hk with
      | 0, _ => exact ⟨rfl, rfl⟩
      | 1, _ => exact ⟨rfl, rfl⟩
      | 2, _ => exact ⟨rfl, rfl⟩
      | 3, _ => exact ⟨rfl, rfl⟩
      | 4, _ => exact ⟨rfl, rfl⟩
    simp only [Bool.or_eq_true, beq_iff_eq] at hk
    rcases hk with h | h
    · refine ⟨6, f % 100, (RX6, TX6, 8), rfl, by show f % 100 < 8; omega, h, ?_, ?_, ?_, by omega⟩
      · unfold zfid; rw [if_pos ⟨Or.inl rfl, hlt⟩]; omega
      · unfold zfs; rw [if_pos h5]
      · unfold zft; rw [if_pos h5]; rfl
    · refine ⟨7, f % 100, (RX7, TX7, 10), rfl, by show f % 100 < 10; omega, h, ?_, ?_, ?_, by omega⟩
      · unfold zfid; rw [if_pos ⟨Or.inr rfl, hlt⟩]; omega
      · unfold zfs; rw [if_pos h5]; exact (hT _ hlt).1
      · unfold zft; rw [if_pos h5]; exact (hT _ hlt).2
  · rw [if_neg h5] at hk hf
    simp only [Bool.and_eq_true, decide_eq_true_eq, Bool.not_eq_true', Bool.and_eq_false_iff, decide_eq_false_iff_not] at hf
    cases hz : zcl[f / 100]? with
    | none => rw [hz] at hf; simp at hf
    | some r =>
      rw [hz] at hf
      have hle : f / 100 ≤ 22 := by
        have := (List.getElem?_eq_some_iff.mp hz).1
        have e : zcl.length = 23 := rfl
        omega
      refine ⟨f / 100, f % 100, r, hz, by simpa using hf.1, by simpa using hk, ?_, ?_, ?_, hle⟩
      · unfold zfid
        have h2 := hf.2
        rw [if_neg]
        · omega
        · rintro ⟨h | h, hlt⟩
          · rcases h2 with h2 | h2
            · simp [h] at h2
            · exact h2 hlt
          · rcases h2 with h2 | h2
            · simp [h] at h2
            · exact h2 hlt
      · unfold zfs; rw [if_neg h5, hz]; rfl
      · unfold zft; rw [if_neg h5]
def zgf (σ : zM) (f : Nat) (a : Int) : Option Int := if 0 ≤ a ∧ zkf f (zK σ a.toNat).1 = true then some (zF σ f a.toNat) else none
def zsF (σ : zM) (f a : Nat) (v : Int) : zM := (fun f' a' => if f' = f ∧ a' = a then v else zF σ f' a', σ.2)
def zpf (σ : zM) (f : Nat) (a v : Int) : Option zM := if 0 ≤ a ∧ zkf f (zK σ a.toNat).1 = true then some (zsF σ f a.toNat v) else none
/-- the name under which the code knows a field -/
def zsame (ref : String) (f : Nat) : Prop := ref = (zfs f).1 ∨ Cond.sameField ref (zfs f).1 (zfs f).2.1 (zfs f).2.2.1 ∈ lw_all
theorem zsame_at {g : zG} (hg : zgok g) {ref : String} {f : Nat} (h : zsame ref f) {U : State} (hW : (zs g).WarmedH U.vm) : ∀ x, U.fieldFound? (zfs f).1 (zfs f).2.1 (zfs f).2.2.1 = some x → U.fieldFound? ref (zfs f).2.1 (zfs f).2.2.1 = some x := by
  intro x hx
  rcases h with h | h
  · rw [h]; exact hx
  · exact u_same (args := #[]) (zw hg h hW #[]) x hx
section R4
variable {g : zG} {M : zT} {lv pc : Nat} {ls : List (Nat × zV)} {st : List zV} {σ : zM} {out : zO}
theorem zobj_at {H : Heap} {f : Nat} {a : Int} (hH : zHp g σ H) (hf : zfok f = true) (h0 : 0 ≤ a) (hk : zkf f (zK σ a.toNat).1 = true) :
    ∃ (ci k : Nat) (r : vw_C), zcl[ci]? = some r ∧ k < r.2.2 ∧ (zK σ a.toNat).1 = ci + 1 ∧ zfid ci k = f ∧ r.2.1 k = zfs f ∧ zty ci k = zft f ∧ zB g ≤ a.toNat ∧ t_OB a.toNat (zC g ci) r.2.2 (zI g ci) H (fun k => zval g (ztag (zty ci k), zF σ (zfid ci k) a.toNat)) ∧ ∀ k, k < r.2.2 → zokt g (zty ci k) (zF σ (zfid ci k) a.toNat) := by
  obtain ⟨ci, k, r, h1, h2, h3, h4, h5, h6, h7⟩ := zfspec hf hk
  obtain ⟨hb, hc⟩ := hH.2.2.2 a.toNat (by omega)
  unfold zcell at hc
  rw [if_pos (by omega), h3, Nat.add_sub_cancel] at hc
  obtain ⟨r', e1, e2, e3⟩ := hc
  cases h1.symm.trans e1
  exact ⟨ci, k, r, h1, h2, h3, h4, h5, h6, hb, e2, e3⟩
theorem zref_at (g : zG) {a : Int} (h : 0 ≤ a) : zref g a = .ref a.toNat := by
  unfold zref
  rw [if_neg (by omega), if_pos h]
theorem zgf_some {f : Nat} {a v : Int} (h : zgf σ f a = some v) : 0 ≤ a ∧ zkf f (zK σ a.toNat).1 = true ∧ v = zF σ f a.toNat := by
  unfold zgf at h
  split at h
  · rename_i h1
    cases h
    exact ⟨h1.1, h1.2, rfl⟩
  · cases h
theorem zpf_some {f : Nat} {a v : Int} {σ' : zM} (h : zpf σ f a v = some σ') : 0 ≤ a ∧ zkf f (zK σ a.toNat).1 = true ∧ σ' = zsF σ f a.toNat v := by
  unfold zpf at h
  split at h
  · rename_i h1
    cases h
    exact ⟨h1.1, h1.2, rfl⟩
  · cases h
theorem gj_getf {f idx : Nat} {ref : String} {a v : Int} (hf : zfok f = true) (hv : zgf σ f a = some v) (hd : decode M.2.1 pc = .ok (.getfield idx, 3)) (hq : Cond.fieldLink M.1.cls idx ref (zfs f).2.1 (zfs f).2.2.1 ∈ lw_all) (hs : zsame ref f)
    (k : Gj g M lv (pc + 3) ls ((ztag (zft f), v) :: st) σ out) : Gj g M lv pc ls (zr a :: st) σ out := by
  intro p e s m args below meth c H locs lc σs ⟨h1, h2, h3, h4, h5, h6, h7, h8, h9, h10, h11⟩
  have hc := h2
  obtain ⟨hx, hb, hml, hr, hlk, hown, hnm, hW, hh, hsz⟩ := hc
  obtain ⟨ha, hk, rfl⟩ := zgf_some hv
  obtain ⟨ci, kk, r, e1, e2, e3, e4, e5, e6, e7, ⟨cell, q1, q2, q3, q4⟩, e9⟩ := zobj_at h3 hf ha hk
  obtain ⟨hin, hty, hnm2, -⟩ := zclk_all ci r e1
  obtain ⟨hS, hfc, kC, hkC, hkind⟩ := (zva h1 hW).1 ci _ e1
  obtain ⟨cf, kf, fi, fd, hi, hsl⟩ := hS kk e2
  have hst := (u_facts hfc hkC (u_lays (args := args) (fun w hw => zw h1 hw hW args) hin e2) hi).1
  rw [e5] at hi
  simp only [List.map_cons, zval_r, zref_at g ha]
  refine W.getf hx hb hown (zw h1 hq hW args) (zsame_at h1 hs hW _ hi) hst q1 (by rw [q3]; exact fun h => by cases h) (v := zval g (ztag (zft f), zF σ f a.toNat)) ?_ rfl rfl hd (k p e s m args below meth c H locs lc σs ⟨h1, h2, h3, h4, h5, h6, h7, h8, h9, h10, zmem ?_ (ztl h11)⟩)
  · rw [hsl, q4 kk e2]
    simp only [e4, e6]
  · have := zok_of (e9 kk e2)
    rw [e4, e6] at this
    exact this
theorem gj_getN {f idx : Nat} {ref host : String} {a v : Int} (hf : zfok f = true) (hv : zgf σ f a = some v) (hd : decode M.2.1 pc = .ok (.getfield idx, 3)) (hq : Cond.fieldLinkNest M.1.cls idx ref (zfs f).2.1 (zfs f).2.2.1 host ∈ lw_tbl) (hs : zsame ref f)
    (k : Gj g M lv (pc + 3) ls ((ztag (zft f), v) :: st) σ out) : Gj g M lv pc ls (zr a :: st) σ out := by
  intro p e s m args below meth c H locs lc σs ⟨h1, h2, h3, h4, h5, h6, h7, h8, h9, h10, h11⟩
  have hc := h2
  obtain ⟨hx, hb, hml, hr, hlk, hown, hnm, hW, hh, hsz⟩ := hc
  obtain ⟨ha, hk, rfl⟩ := zgf_some hv
  obtain ⟨ci, kk, r, e1, e2, e3, e4, e5, e6, e7, ⟨cell, q1, q2, q3, q4⟩, e9⟩ := zobj_at h3 hf ha hk
  obtain ⟨hin, hty, hnm2, -⟩ := zclk_all ci r e1
  obtain ⟨hS, hfc, kC, hkC, hkind⟩ := (zva h1 hW).1 ci _ e1
  obtain ⟨cf, kf, fi, fd, hi, hsl⟩ := hS kk e2
  have hst := (u_facts hfc hkC (u_lays (args := args) (fun w hw => zw h1 hw hW args) hin e2) hi).1
  rw [e5] at hi
  simp only [List.map_cons, zval_r, zref_at g ha]
  refine va_Wgetf hx hb hown (zwF h1 hq hW args) (zsame_at h1 hs hW _ hi) hst q1 (by rw [q3]; exact fun h => by cases h) (v := zval g (ztag (zft f), zF σ f a.toNat)) ?_ rfl rfl hd (k p e s m args below meth c H locs lc σs ⟨h1, h2, h3, h4, h5, h6, h7, h8, h9, h10, zmem ?_ (ztl h11)⟩)
  · rw [hsl, q4 kk e2]
    simp only [e4, e6]
  · have := zok_of (e9 kk e2)
    rw [e4, e6] at this
    exact this
/-- a cell of which nothing is written -/
theorem zcell_kept {σ' : zM} {a : Nat} {H H' : Heap} (h : zcell g σ a H) (hK : zK σ' a = zK σ a) (hF : ∀ f, zF σ' f a = zF σ f a) (hA : zA σ' a = zA σ a) (hH : H'[a]? = H[a]?) : zcell g σ' a H' := by
  unfold zcell at h ⊢
  rw [hK]
  split
  · rename_i h0
    rw [if_pos h0] at h
    obtain ⟨r, e1, e2, e3⟩ := h
    refine ⟨r, e1, (e2.kept hH).to (fun k _ => by rw [hF]), fun k hk => by rw [hF]; exact e3 k hk⟩
  · rename_i h0
    rw [if_neg h0] at h
    split
    · rename_i h1
      rw [if_pos h1] at h
      obtain ⟨cell, e1, e2⟩ := h
      exact ⟨cell, hH.trans e1, e2⟩
    · rename_i h1
      rw [if_neg h1] at h
      obtain ⟨e1, e2, e3, e4⟩ := h
      refine ⟨?_, e2, e3, fun j hj => by rw [hA]; exact e4 j hj⟩
      rw [hH, e1]
      simp only [hA]
theorem zfid_inj {ci k k' : Nat} (h : zfid ci k = zfid ci k') (h1 : k < 100) (h2 : k' < 100) : k = k' := by
  unfold zfid at h
  split at h <;> split at h <;> omega
/-- a field is written -/
theorem zHp_put {H H' : Heap} {f ci k : Nat} {r : vw_C} {a : Nat} {cell : Cell} {v : Int} {s : State} (hg : zgok g) (hW : (zs g).WarmedH s.vm) (hH : zHp g σ H) (e1 : zcl[ci]? = some r) (e2 : k < r.2.2) (e3 : (zK σ a).1 = ci + 1) (e4 : zfid ci k = f) (e6 : zty ci k = zft f) (hci : ci ≤ 22) (e7 : zB g ≤ a)
    (q1 : H[a]? = some cell) (q2 : cell.cls = zC g ci) (q3 : cell.vm = .none) (q4 : ∀ k, k < r.2.2 → cell.slots[zI g ci k]? = some (zval g (ztag (zty ci k), zF σ (zfid ci k) a))) (e9 : ∀ k, k < r.2.2 → zokt g (zty ci k) (zF σ (zfid ci k) a)) (hv : zokt g (zft f) v)
    (w1 : H'[a]? = some (cell.setSlot (zI g ci k) (zval g (ztag (zft f), v)))) (w2 : H'.size = H.size) (w3 : ∀ q, q ≠ a → H'[q]? = H[q]?) : zHp g (zsF σ f a v) H' := by
  obtain ⟨hin, hty, hnm2, -, hN⟩ := zclk_all ci r e1
  have hap := va_apart (own := "") (args := #[]) (fun w hw => zw hg hw hW #[]) hin (zty ci) hty hnm2 (zva hg hW) e1
  refine ⟨w2.trans hH.1, hH.2.1, fun q hq => ?_, fun a' ha' => ?_⟩
  · rw [w3 q (by omega)]
    exact hH.2.2.1 q hq
  · obtain ⟨b1, b2⟩ := hH.2.2.2 a' ha'
    refine ⟨b1, ?_⟩
    by_cases haa : a' = a
    · subst haa
      unfold zcell
      rw [show zK (zsF σ f a' v) a' = zK σ a' from rfl, if_pos (by omega), e3, Nat.add_sub_cancel]
      refine ⟨r, e1, ?_, fun j hj => ?_⟩
      · refine t_OB.to (V := updV (fun k => zval g (ztag (zty ci k), zF σ (zfid ci k) a')) k (zval g (ztag (zft f), v))) ⟨_, w1, q2, q3, t_set q4 hap e2 _⟩ (fun j hj => ?_)
        unfold updV
        by_cases hjk : j = k
        · rw [if_pos hjk, hjk, e6]
          show _ = zval g (ztag (zft f), if zfid ci k = f ∧ a' = a' then v else _)
          rw [if_pos ⟨e4, rfl⟩]
        · rw [if_neg hjk]
          show _ = zval g (ztag (zty ci j), if zfid ci j = f ∧ a' = a' then v else _)
          rw [if_neg]
          rintro ⟨h, -⟩
          exact hjk (zfid_inj (h.trans e4.symm) (by omega) (by omega))
      · show zokt g (zty ci j) (if zfid ci j = f ∧ a' = a' then v else _)
        by_cases hjk : j = k
        · rw [hjk, if_pos ⟨e4, rfl⟩, e6]
          exact hv
        · rw [if_neg]
          · exact e9 j hj
          · rintro ⟨h, -⟩
            exact hjk (zfid_inj (h.trans e4.symm) (by omega) (by omega))
    · refine zcell_kept b2 rfl (fun f' => ?_) rfl (w3 a' haa)
      show (if f' = f ∧ a' = a then v else _) = _
      rw [if_neg (fun h => haa h.2)]
theorem zlocs {locs : List Loc} {b a i : Nat} (h : ∀ q ∈ locs, b ≤ q.base) (ha : b ≤ a) : ∀ q ∈ locs ++ [(⟨a, i⟩ : Loc)], b ≤ q.base := fun q hq => by
  rcases List.mem_append.mp hq with h1 | h1
  · exact h q h1
  · simp only [List.mem_cons, List.not_mem_nil, or_false] at h1
    rw [h1]; exact ha
theorem gj_putf {f idx : Nat} {ref : String} {a v : Int} {σ' : zM} (hf : zfok f = true) (hv : zpf σ f a v = some σ') (hfin : (zfs f).2.2.2 = false) (hr : zok g (ztag (zft f), v) → zokt g (zft f) v) (hd : decode M.2.1 pc = .ok (.putfield idx, 3)) (hq : Cond.fieldLink M.1.cls idx ref (zfs f).2.1 (zfs f).2.2.1 ∈ lw_all) (hs : zsame ref f)
    (k : Gj g M lv (pc + 3) ls st σ' out) : Gj g M lv pc ls ((ztag (zft f), v) :: zr a :: st) σ out := by
  intro p e s m args below meth c H locs lc σs ⟨h1, h2, h3, h4, h5, h6, h7, h8, h9, h10, h11⟩
  have hc := h2
  obtain ⟨hx, hb, hml, hret, hlk, hown, hnm, hW, hh, hsz⟩ := hc
  obtain ⟨ha, hk, rfl⟩ := zpf_some hv
  obtain ⟨ci, kk, r, e1, e2, e3, e4, e5, e6, e7, ⟨cell, q1, q2, q3, q4⟩, e9⟩ := zobj_at h3 hf ha hk
  obtain ⟨hin, hty, hnm2, hgt, hN⟩ := zclk_all ci r e1
  obtain ⟨hS, hfc, kC, hkC, hkind⟩ := (zva h1 hW).1 ci _ e1
  obtain ⟨cf, kf, fi, fd, hi, hsl⟩ := hS kk e2
  have hts := fun w hw => zw h1 (w := w) hw hW args
  have hlay := hts _ (hin _ (u_in_lay e2))
  unfold u_lay at hlay
  rw [if_neg (by rw [e5, hfin]; decide)] at hlay
  have hst := (u_facts hfc hkC (u_lays (args := args) hts hin e2) hi).1
  have hvt := hr (zhd h11)
  have hnf := znf (g := g) (t := zft f) (by rw [← e6]; exact hgt kk e2) hvt
  have h6' := u_store hfc hkC hkind hlay hi (by rw [hty kk e2, e6]) hnf.1 hnf.2
  have hsl' : fd.slot = zI g ci kk := hsl
  rw [e5] at hi
  simp only [List.map_cons, zval_r, zref_at g ha]
  have hci : ci ≤ 22 := by
    have := (List.getElem?_eq_some_iff.mp e1).1
    have e : zcl.length = 23 := rfl
    omega
  refine W.putK hx hb (f := fd) ⟨hown, zw h1 hq hW args, ⟨_, _, _, zsame_at h1 hs hW _ hi⟩, hst⟩ (by rw [q2]; exact h6') q1 q3 (by rw [hsl']; exact k2_hasslot (q4 kk e2)) rfl rfl hd fun H' w1 w2 w3 => ?_
  rw [hsl'] at w1
  exact k p e s m args below meth c H' _ lc σs ⟨h1, h2, zHp_put h1 hW h3 e1 e2 e3 e4 e6 hci e7 q1 q2 q3 q4 e9 hvt w1 w2 w3, zlocs h4 e7, h5, h6, h7, h8, h9, h10, ztl (ztl h11)⟩
theorem gj_putN {f idx : Nat} {ref host : String} {a v : Int} {σ' : zM} (hf : zfok f = true) (hv : zpf σ f a v = some σ') (hfin : (zfs f).2.2.2 = false) (hr : zok g (ztag (zft f), v) → zokt g (zft f) v) (hd : decode M.2.1 pc = .ok (.putfield idx, 3)) (hq : Cond.fieldLinkNest M.1.cls idx ref (zfs f).2.1 (zfs f).2.2.1 host ∈ lw_tbl) (hs : zsame ref f)
    (k : Gj g M lv (pc + 3) ls st σ' out) : Gj g M lv pc ls ((ztag (zft f), v) :: zr a :: st) σ out := by
  intro p e s m args below meth c H locs lc σs ⟨h1, h2, h3, h4, h5, h6, h7, h8, h9, h10, h11⟩
  have hc := h2
  obtain ⟨hx, hb, hml, hret, hlk, hown, hnm, hW, hh, hsz⟩ := hc
  obtain ⟨ha, hk, rfl⟩ := zpf_some hv
  obtain ⟨ci, kk, r, e1, e2, e3, e4, e5, e6, e7, ⟨cell, q1, q2, q3, q4⟩, e9⟩ := zobj_at h3 hf ha hk
  obtain ⟨hin, hty, hnm2, hgt, hN⟩ := zclk_all ci r e1
  obtain ⟨hS, hfc, kC, hkC, hkind⟩ := (zva h1 hW).1 ci _ e1
  obtain ⟨cf, kf, fi, fd, hi, hsl⟩ := hS kk e2
  have hts := fun w hw => zw h1 (w := w) hw hW args
  have hlay := hts _ (hin _ (u_in_lay e2))
  unfold u_lay at hlay
  rw [if_neg (by rw [e5, hfin]; decide)] at hlay
  have hst := (u_facts hfc hkC (u_lays (args := args) hts hin e2) hi).1
  have hvt := hr (zhd h11)
  have hnf := znf (g := g) (t := zft f) (by rw [← e6]; exact hgt kk e2) hvt
  have h6' := u_store hfc hkC hkind hlay hi (by rw [hty kk e2, e6]) hnf.1 hnf.2
  have hsl' : fd.slot = zI g ci kk := hsl
  rw [e5] at hi
  simp only [List.map_cons, zval_r, zref_at g ha]
  have hci : ci ≤ 22 := by
    have := (List.getElem?_eq_some_iff.mp e1).1
    have e : zcl.length = 23 := rfl
    omega
  refine va_WputK hx hb (f := fd) hown (zwF h1 hq hW args) (zsame_at h1 hs hW _ hi) hst (by rw [q2]; exact h6') q1 q3 (by rw [hsl']; exact k2_hasslot (q4 kk e2)) rfl rfl hd fun H' w1 w2 w3 => ?_
  rw [hsl'] at w1
  exact k p e s m args below meth c H' _ lc σs ⟨h1, h2, zHp_put h1 hW h3 e1 e2 e3 e4 e6 hci e7 q1 q2 q3 q4 e9 hvt w1 w2 w3, zlocs h4 e7, h5, h6, h7, h8, h9, h10, ztl (ztl h11)⟩
theorem gj_putF {f idx : Nat} {ref : String} {a v : Int} {σ' : zM} (hf : zfok f = true) (hv : zpf σ f a v = some σ') (hfin : (zfs f).2.2.2 = true) (hin2 : M.1.name = "<init>") (hdecl : (zfs f).1 = M.1.cls) (hr : zok g (ztag (zft f), v) → zokt g (zft f) v) (hd : decode M.2.1 pc = .ok (.putfield idx, 3)) (hq : Cond.fieldLink M.1.cls idx ref (zfs f).2.1 (zfs f).2.2.1 ∈ lw_all) (hs : zsame ref f)
    (k : Gj g M lv (pc + 3) ls st σ' out) : Gj g M lv pc ls ((ztag (zft f), v) :: zr a :: st) σ out := by
  intro p e s m args below meth c H locs lc σs ⟨h1, h2, h3, h4, h5, h6, h7, h8, h9, h10, h11⟩
  have hc := h2
  obtain ⟨hx, hb, hml, hret, hlk, hown, hnm, hW, hh, hsz⟩ := hc
  obtain ⟨ha, hk, rfl⟩ := zpf_some hv
  obtain ⟨ci, kk, r, e1, e2, e3, e4, e5, e6, e7, ⟨cell, q1, q2, q3, q4⟩, e9⟩ := zobj_at h3 hf ha hk
  obtain ⟨hin, hty, hnm2, hgt, hN⟩ := zclk_all ci r e1
  obtain ⟨hS, hfc, kC, hkC, hkind⟩ := (zva h1 hW).1 ci _ e1
  obtain ⟨cf, kf, fi, fd, hi, hsl⟩ := hS kk e2
  have hts := fun w hw => zw h1 (w := w) hw hW args
  have hlay := hts _ (hin _ (u_in_lay e2))
  unfold u_lay at hlay
  rw [if_pos (by rw [e5, hfin])] at hlay
  have hst := (u_facts hfc hkC (u_lays (args := args) hts hin e2) hi).1
  have hcf : m.cls = cf := by
    obtain ⟨_, _, c', _, _, _, -, -, hf', -, -, -, hown2, -⟩ := Cond.laysFinal_spec hlay
    have e1 : c' = cf := by have := hi.symm.trans hf'; simp at this; exact this.1.symm
    rw [e5, hdecl] at hown2
    rw [← e1]; exact Option.some.inj (hown.symm.trans hown2)
  have hvt := hr (zhd h11)
  have hnf := znf (g := g) (t := zft f) (by rw [← e6]; exact hgt kk e2) hvt
  have h6' := u_fits hfc hkC hkind (Or.inr hlay) hi (by rw [hty kk e2, e6]) hnf.1 hnf.2
  have hsl' : fd.slot = zI g ci kk := hsl
  rw [e5] at hi
  simp only [List.map_cons, zval_r, zref_at g ha]
  have hci : ci ≤ 22 := by
    have := (List.getElem?_eq_some_iff.mp e1).1
    have e : zcl.length = 23 := rfl
    omega
  refine W.putFinK hx hb hown (zw h1 hq hW args) (zsame_at h1 hs hW _ hi) hst hcf (hnm.trans hin2) (by rw [q2]; exact h6') q1 q3 (by rw [hsl']; exact k2_hasslot (q4 kk e2)) rfl rfl hd fun H' w1 w2 w3 => ?_
  rw [hsl'] at w1
  exact k p e s m args below meth c H' _ lc σs ⟨h1, h2, zHp_put h1 hW h3 e1 e2 e3 e4 e6 hci e7 q1 q2 q3 q4 e9 hvt w1 w2 w3, zlocs h4 e7, h5, h6, h7, h8, h9, h10, ztl (ztl h11)⟩
end R4

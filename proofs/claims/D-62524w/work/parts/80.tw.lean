set_option maxRecDepth 100000
/-! the twin's own memory: its numbers by field, its arrays by field and place -/
abbrev zW : Type := (Nat → Int) × (Nat → Nat → Int)
def tix (f : Nat) : Nat := match f with
  | 902 => 0
  | 909 => 1
  | 910 => 2
  | 911 => 3
  | 912 => 4
  | 914 => 5
  | 915 => 6
  | 916 => 7
  | 917 => 8
  | 918 => 9
  | 919 => 10
  | 920 => 11
  | 921 => 12
  | 922 => 13
  | 923 => 14
  | 924 => 15
  | 925 => 16
  | 926 => 17
  | 928 => 18
  | 929 => 19
  | 931 => 20
  | 932 => 21
  | 933 => 22
  | 934 => 23
  | 935 => 24
  | 937 => 25
  | 939 => 26
  | 940 => 27
  | 941 => 28
  | 943 => 29
  | 947 => 30
  | 948 => 31
  | 949 => 32
  | 950 => 33
  | 951 => 34
  | 952 => 35
  | 953 => 36
  | 954 => 37
  | 955 => 38
  | 956 => 39
  | 957 => 40
  | 958 => 41
  | 960 => 42
  | 963 => 43
  | 966 => 44
  | 968 => 45
  | 970 => 46
  | 971 => 47
  | 972 => 48
  | 973 => 49
  | 974 => 50
  | 975 => 51
  | 976 => 52
  | 977 => 53
  | 980 => 54
  | 981 => 55
  | 983 => 56
  | _ => 999
def tlen (f : Nat) : Nat := match f with
  | 902 => 240
  | 909 => 8
  | 910 => 8
  | 911 => 6
  | 912 => 2
  | 914 => 140
  | 915 => 140
  | 916 => 140
  | 917 => 140
  | 918 => 140
  | 919 => 140
  | 920 => 140
  | 921 => 140
  | 922 => 140
  | 923 => 140
  | 924 => 140
  | 925 => 140
  | 926 => 140
  | 928 => 48
  | 929 => 140
  | 931 => 5
  | 932 => 5
  | 933 => 32
  | 934 => 124
  | 935 => 124
  | 937 => 480
  | 939 => 8
  | 940 => 8
  | 941 => 8
  | 943 => 240
  | 947 => 97
  | 948 => 98
  | 949 => 401
  | 950 => 401
  | 951 => 401
  | 952 => 401
  | 953 => 98
  | 954 => 401
  | 955 => 6
  | 956 => 2
  | 957 => 6
  | 958 => 4
  | 960 => 240
  | 963 => 240
  | 966 => 240
  | 968 => 3
  | 970 => 8
  | 971 => 8
  | 972 => 8
  | 973 => 8
  | 974 => 768
  | 975 => 768
  | 976 => 768
  | 977 => 6144
  | 980 => 1280
  | 981 => 1024
  | 983 => 61
  | _ => 0
def tkd (f : Nat) : Nat := match f with
  | 902 => 101
  | 909 => 101
  | 910 => 101
  | 911 => 101
  | 912 => 101
  | 914 => 101
  | 915 => 101
  | 916 => 101
  | 917 => 101
  | 918 => 103
  | 919 => 101
  | 920 => 101
  | 921 => 101
  | 922 => 101
  | 923 => 101
  | 924 => 101
  | 925 => 101
  | 926 => 101
  | 928 => 101
  | 929 => 101
  | 931 => 101
  | 932 => 101
  | 933 => 101
  | 934 => 101
  | 935 => 102
  | 937 => 101
  | 939 => 101
  | 940 => 101
  | 941 => 101
  | 943 => 101
  | 947 => 102
  | 948 => 101
  | 949 => 101
  | 950 => 101
  | 951 => 101
  | 952 => 101
  | 953 => 101
  | 954 => 101
  | 955 => 101
  | 956 => 101
  | 957 => 101
  | 958 => 101
  | 960 => 101
  | 963 => 101
  | 966 => 101
  | 968 => 101
  | 970 => 101
  | 971 => 101
  | 972 => 101
  | 973 => 101
  | 974 => 101
  | 975 => 101
  | 976 => 103
  | 977 => 101
  | 980 => 101
  | 981 => 101
  | 983 => 101
  | _ => 0
def tif (i : Nat) : Nat := match i with
  | 0 => 902
  | 1 => 909
  | 2 => 910
  | 3 => 911
  | 4 => 912
  | 5 => 914
  | 6 => 915
  | 7 => 916
  | 8 => 917
  | 9 => 918
  | 10 => 919
  | 11 => 920
  | 12 => 921
  | 13 => 922
  | 14 => 923
  | 15 => 924
  | 16 => 925
  | 17 => 926
  | 18 => 928
  | 19 => 929
  | 20 => 931
  | 21 => 932
  | 22 => 933
  | 23 => 934
  | 24 => 935
  | 25 => 937
  | 26 => 939
  | 27 => 940
  | 28 => 941
  | 29 => 943
  | 30 => 947
  | 31 => 948
  | 32 => 949
  | 33 => 950
  | 34 => 951
  | 35 => 952
  | 36 => 953
  | 37 => 954
  | 38 => 955
  | 39 => 956
  | 40 => 957
  | 41 => 958
  | 42 => 960
  | 43 => 963
  | 44 => 966
  | 45 => 968
  | 46 => 970
  | 47 => 971
  | 48 => 972
  | 49 => 973
  | 50 => 974
  | 51 => 975
  | 52 => 976
  | 53 => 977
  | 54 => 980
  | 55 => 981
  | 56 => 983
  | _ => 0

def us (V : zW) (f : Nat) (v : Int) : zW := (fun g => if g = f then v else V.1 g, V.2)
def ua (V : zW) (f i : Nat) (v : Int) : zW := (V.1, fun g j => if g = f ∧ j = i then v else V.2 g j)
def tga (V : zW) (f : Nat) (i : Int) : Option Int := if 0 ≤ i ∧ i < tlen f then some (V.2 f i.toNat) else none
def tpa (V : zW) (f : Nat) (i v : Int) : Option zW := if 0 ≤ i ∧ i < tlen f then some (ua V f i.toNat v) else none
def twl {α : Type} (V : zW) (k : zW → Option α) : Option α := k V
def tci {α : Type} (o : Option (Int × zW)) (k : Int → zW → Option α) : Option α := o.bind fun p => k p.1 p.2
def tcj {α : Type} (o : Option (Int × zW)) (k : Int → zW → Option α) : Option α := o.bind fun p => k p.1 p.2
def tcv {α : Type} (o : Option zW) (k : zW → Option α) : Option α := o.bind k
/-- a number's field of the twin -/
def tsc (f : Nat) : Bool := decide (900 ≤ f) && decide (f < 984) && decide (tix f = 999)
/-- where its arrays lie -/
def tad (m f : Nat) : Int := ((m + 1 + tix f : Nat) : Int)
/-- the memory with the twin's own put in -/
def tw (σ : zM) (m : Nat) (V : zW) : zM := (fun f a => if a = m ∧ tsc f = true then V.1 f else zF σ f a, fun a i => if m < a ∧ a ≤ m + 57 then V.2 (tif (a - m - 1)) i else zA σ a i, zK σ, zN σ, zU σ, zE σ)
/-- the twin lies at m -/
def tOK (m : Nat) (σ : zM) : Prop := zK σ m = (10, 0) ∧ ∀ f, tix f < 57 → tif (tix f) = f ∧ zF σ f m = tad m f ∧ zK σ (m + 1 + tix f) = (tkd f, tlen f)
def tR {α β : Type} (φ : β → α) (o : Option α) (o' : Option β) : Prop := o = o'.map φ
def tfi (σ : zM) (m : Nat) (p : Int × zW) : zO := (0, zi p.1, tw σ m p.2)
def tfj (σ : zM) (m : Nat) (p : Int × zW) : zO := (0, zj p.1, tw σ m p.2)
def tfv (σ : zM) (m : Nat) (V : zW) : zO := (0, (3, 0), tw σ m V)
theorem tkd_ix {f k : Nat} (h : tkd f = k) (h0 : 101 ≤ k) : tix f < 57 := by
  unfold tkd at h
  unfold tix
  split at h <;> first | decide | (subst h; exact absurd h0 (by decide))
section TW
variable {σ : zM} {m : Nat} {V : zW} {α β : Type} {φ : β → α}
theorem tw_K (σ : zM) (m : Nat) (V : zW) (a : Nat) : zK (tw σ m V) a = zK σ a := rfl
theorem tkf {f : Nat} (h1 : 900 ≤ f) (h2 : f < 984) : zkf f 10 = true := by
  have e : f / 100 = 9 := by omega
  simp [zkf, e]
theorem tsc_rng {f : Nat} (h : tsc f = true) : 900 ≤ f ∧ f < 984 := by
  simp only [tsc, Bool.and_eq_true, decide_eq_true_eq] at h
  exact h.1
theorem tar_rng {f : Nat} (h : tix f < 57) : 900 ≤ f ∧ f < 984 := by
  unfold tix at h
  split at h <;> first | omega | (exact absurd h (by decide))
theorem tw_gf (h : tOK m σ) {f : Nat} (hf : tsc f = true) : zgf (tw σ m V) f (m : Int) = some (V.1 f) := by
  have hr := tsc_rng hf
  unfold zgf
  rw [Int.toNat_natCast, tw_K, h.1, if_pos ⟨Int.natCast_nonneg m, tkf hr.1 hr.2⟩]
  show some (if m = m ∧ tsc f = true then V.1 f else _) = _
  rw [if_pos ⟨rfl, hf⟩]
theorem te_gs (h : tOK m σ) {f : Nat} {k : Int → Option α} {k' : Int → Option β} (hf : tsc f = true) (kk : ∀ v, tR φ (k v) (k' v)) : tR φ ((zgf (tw σ m V) f (m : Int)).bind k) (zlet (V.1 f) k') := by
  rw [tw_gf h hf]
  exact kk _
theorem tsc_no {f : Nat} (hf : tix f < 57) : tsc f = false := by
  unfold tsc
  have e : ¬ tix f = 999 := by omega
  simp [e]
theorem te_gr (h : tOK m σ) {f : Nat} {k : Int → Option α} {o' : Option β} (hf' : decide (tix f < 57) = true) (kk : tR φ (k (tad m f)) o') : tR φ ((zgf (tw σ m V) f (m : Int)).bind k) o' := by
  replace hf' := of_decide_eq_true hf'
  have hr := tar_rng hf'
  have e : zgf (tw σ m V) f (m : Int) = some (tad m f) := by
    unfold zgf
    rw [Int.toNat_natCast, tw_K, h.1, if_pos ⟨Int.natCast_nonneg m, tkf hr.1 hr.2⟩]
    show some (if m = m ∧ tsc f = true then V.1 f else zF σ f m) = _
    rw [if_neg (by rw [tsc_no hf']; simp), (h.2 f hf').2.1]
  rw [e]
  exact kk
theorem tad_nat (m f : Nat) : (tad m f).toNat = m + 1 + tix f := Int.toNat_natCast _
theorem tw_A (h : tOK m σ) {f : Nat} (hf : tix f < 57) (i : Nat) : zA (tw σ m V) (m + 1 + tix f) i = V.2 f i := by
  show (if m < m + 1 + tix f ∧ m + 1 + tix f ≤ m + 57 then V.2 (tif (m + 1 + tix f - m - 1)) i else _) = _
  rw [if_pos ⟨by omega, by omega⟩, show m + 1 + tix f - m - 1 = tix f by omega, (h.2 f hf).1]
theorem tw_ga (h : tOK m σ) {f kd : Nat} {i : Int} (hk : tkd f = kd) (h0 : 101 ≤ kd) : zga (tw σ m V) kd (tad m f) i = tga V f i := by
  have hf := tkd_ix hk h0
  unfold zga tga
  rw [tad_nat, tw_K, (h.2 f hf).2.2]
  by_cases hi : 0 ≤ i ∧ i < tlen f
  · rw [if_pos hi, if_pos ⟨Int.natCast_nonneg _, hk, hi.1, hi.2⟩, tw_A h hf]
  · rw [if_neg hi, if_neg (fun q => hi q.2.2)]
theorem te_ga (h : tOK m σ) {f kd : Nat} {i : Int} {k : Int → Option α} {k' : Int → Option β} (hk : tkd f = kd) (kk : ∀ v, tR φ (k v) (k' v)) (h0 : 101 ≤ kd := by decide) : tR φ ((zga (tw σ m V) kd (tad m f) i).bind k) ((tga V f i).bind k') := by
  rw [tw_ga h hk h0]
  cases tga V f i with
  | none => rfl
  | some v => exact kk v
theorem tw_us (h : tOK m σ) {f : Nat} {v : Int} (hf : tsc f = true) : zpf (tw σ m V) f (m : Int) v = some (tw σ m (us V f v)) := by
  have hr := tsc_rng hf
  unfold zpf
  rw [Int.toNat_natCast, tw_K, h.1, if_pos ⟨Int.natCast_nonneg m, tkf hr.1 hr.2⟩]
  congr 1
  unfold zsF tw us
  congr 1
  funext f' a'
  by_cases h1 : f' = f
  · subst h1
    by_cases h2 : a' = m
    · subst h2; simp [hf]
    · simp [h2, zF]
  · simp [h1, zF]
theorem te_ps (h : tOK m σ) {f : Nat} {v : Int} {k : zM → Option α} {k' : zW → Option β} (hf : tsc f = true) (kk : ∀ V', tR φ (k (tw σ m V')) (k' V')) : tR φ ((zpf (tw σ m V) f (m : Int) v).bind k) (twl (us V f v) k') := by
  rw [tw_us h hf]
  exact kk _
theorem tif_inj : ∀ i : Nat, i < 57 → ∀ j : Nat, j < 57 → tif i = tif j → i = j := by decide +kernel
theorem tw_ua (h : tOK m σ) {f kd : Nat} {i v : Int} (hk : tkd f = kd) (h0 : 101 ≤ kd) : zpa (tw σ m V) kd (tad m f) i v = (tpa V f i v).map (tw σ m) := by
  have hf := tkd_ix hk h0
  unfold zpa tpa
  rw [tad_nat, tw_K, (h.2 f hf).2.2]
  by_cases hi : 0 ≤ i ∧ i < tlen f
  · rw [if_pos hi, if_pos ⟨Int.natCast_nonneg _, hk, hi.1, hi.2⟩]
    show some _ = some _
    congr 1
    unfold zsA tw ua
    congr 2
    funext a j
    by_cases ha : a = m + 1 + tix f
    · subst ha
      have e1 : m < m + 1 + tix f ∧ m + 1 + tix f ≤ m + 57 := ⟨by omega, by omega⟩
      have e2 : tif (m + 1 + tix f - m - 1) = f := by rw [show m + 1 + tix f - m - 1 = tix f by omega]; exact (h.2 f hf).1
      by_cases hj : j = i.toNat
      · simp [hj, e1, e2]
      · simp [hj, e1, e2, zA]
    · have e3 : ¬ (a = m + 1 + tix f ∧ j = i.toNat) := fun q => ha q.1
      by_cases e1 : m < a ∧ a ≤ m + 57
      · have e2 : tif (a - m - 1) ≠ f := by
          intro q
          have := tif_inj (a - m - 1) (by omega) (tix f) hf (by rw [q]; exact (h.2 f hf).1.symm)
          omega
        simp [e3, e1, e2, zA]
      · simp [e3, e1, zA]
  · rw [if_neg hi, if_neg (fun q => hi q.2.2)]
    rfl
theorem te_pa (h : tOK m σ) {f kd : Nat} {i v : Int} {k : zM → Option α} {k' : zW → Option β} (hk : tkd f = kd) (kk : ∀ V', tR φ (k (tw σ m V')) (k' V')) (h0 : 101 ≤ kd := by decide) : tR φ ((zpa (tw σ m V) kd (tad m f) i v).bind k) ((tpa V f i v).bind k') := by
  rw [tw_ua h hk h0]
  cases tpa V f i v with
  | none => rfl
  | some V' => exact kk V'
theorem te_is (h : tOK m σ) {a : Option α} {b : Option β} (kk : tR φ a b) : tR φ (zgd (zis (tw σ m V) 10 (m : Int)) a) b := by
  have e : zis (tw σ m V) 10 (m : Int) = true := by
    unfold zis
    rw [Int.toNat_natCast, tw_K, h.1]
    simp
  unfold zgd
  rw [if_pos e]
  exact kk
theorem te_gd {c : Bool} {a : Option α} {b : Option β} (kk : tR φ a b) : tR φ (zgd c a) (zgd c b) := by
  unfold zgd
  split
  · exact kk
  · rfl
theorem te_let {e : Int} {k : Int → Option α} {k' : Int → Option β} (kk : ∀ x, tR φ (k x) (k' x)) : tR φ (zlet e k) (zlet e k') := kk e
theorem te_if {c : Prop} [Decidable c] {a b : Option α} {a' b' : Option β} (k1 : tR φ a a') (k2 : tR φ b b') : tR φ (if c then a else b) (if c then a' else b') := by
  split
  · exact k1
  · exact k2
theorem te_some {a : α} {b : β} (e : a = φ b) : tR φ (some a) (some b) := by
  rw [e]; rfl
theorem te_map {γ δ : Type} {ψ : δ → γ} {o : Option γ} {o' : Option δ} {g : γ → α} {g' : δ → β} (h : tR ψ o o') (e : ∀ r, φ (g' r) = g (ψ r)) : tR φ (o.map g) (o'.map g') := by
  unfold tR at h ⊢
  rw [h]
  cases o' with
  | none => rfl
  | some r => exact congrArg some (e r).symm
theorem te_ci {o : Option zO} {o' : Option (Int × zW)} {k : Int → zM → Option α} {k' : Int → zW → Option β} (h : tR (tfi σ m) o o') (kk : ∀ v V', tR φ (k v (tw σ m V')) (k' v V')) : tR φ (zci o k) (tci o' k') := by
  unfold tR at h
  rw [h]
  cases o' with
  | none => rfl
  | some p => exact kk _ _
theorem te_cj {o : Option zO} {o' : Option (Int × zW)} {k : Int → zM → Option α} {k' : Int → zW → Option β} (h : tR (tfj σ m) o o') (kk : ∀ v V', tR φ (k v (tw σ m V')) (k' v V')) : tR φ (zcj o k) (tcj o' k') := by
  unfold tR at h
  rw [h]
  cases o' with
  | none => rfl
  | some p => exact kk _ _
theorem te_cv {o : Option zO} {o' : Option zW} {k : zM → Option α} {k' : zW → Option β} (h : tR (tfv σ m) o o') (kk : ∀ V', tR φ (k (tw σ m V')) (k' V')) : tR φ (zcv o k) (tcv o' k') := by
  unfold tR at h
  rw [h]
  cases o' with
  | none => rfl
  | some p => exact kk _
theorem te_iter {S S' R R' : Type} {φ : S' → S} {ψ : R' → R} {b : S → Option (S ⊕ R)} {b' : S' → Option (S' ⊕ R')} (hb : ∀ s, tR (Sum.map φ ψ) (b (φ s)) (b' s)) : ∀ (n : Nat) (s : S'), ziter b n (φ s) = (ziter b' n s).map ψ := by
  intro n
  induction n with
  | zero => intro s; rfl
  | succ n ih =>
    intro s
    unfold ziter
    have e : b (φ s) = (b' s).map (Sum.map φ ψ) := hb s
    rw [e]
    cases b' s with
    | none => rfl
    | some x =>
      cases x with
      | inl s' => exact ih s'
      | inr r => rfl
theorem te_loop {S S' R R' : Type} {φ : S' → S} {ψ : R' → R} {b : S → Option (S ⊕ R)} {b' : S' → Option (S' ⊕ R')} {s : S'} (hb : ∀ s, tR (Sum.map φ ψ) (b (φ s)) (b' s)) : tR ψ (zloop b (φ s)) (zloop b' s) := by
  unfold tR
  cases h : zloop b' s with
  | some r =>
    obtain ⟨n, hn⟩ := zloop_some.mp h
    refine zloop_some.mpr ⟨n, ?_⟩
    rw [te_iter hb, hn]
    rfl
  | none =>
    cases h2 : zloop b (φ s) with
    | none => rfl
    | some r =>
      obtain ⟨n, hn⟩ := zloop_some.mp h2
      rw [te_iter hb] at hn
      cases h3 : ziter b' n s with
      | none => rw [h3] at hn; cases hn
      | some r' =>
        rw [zloop_some.mpr ⟨n, h3⟩] at h
        cases h
end TW

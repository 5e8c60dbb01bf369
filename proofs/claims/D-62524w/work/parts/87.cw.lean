set_option maxRecDepth 100000
/-! the component's fixed objects apart from the rest of the memory: numbers by field and object, arrays by key and place -/
abbrev cV : Type := (Nat → Nat → Int) × (Nat → Nat → Int)
abbrev cM : Type := cV × zM
abbrev cO : Type := Nat × zV × cM
def cni (c : Nat) : Nat := match c with
  | 3 => 3
  | 4 => 4
  | 5 => 2
  | _ => 1
def coff (c o : Nat) : Nat := match c, o with
  | 1, 0 => 0
  | 2, 0 => 3
  | 3, 0 => 11
  | 3, 1 => 23
  | 3, 2 => 83
  | 4, 0 => 42
  | 4, 1 => 46
  | 4, 2 => 50
  | 4, 3 => 54
  | 5, 0 => 58
  | 5, 1 => 61
  | 8, 0 => 64
  | _, _ => 999
def aoff (f o : Nat) : Nat := match f, o with
  | 109, 0 => 82
  | 200, 0 => 4
  | 201, 0 => 5
  | 206, 0 => 6
  | 207, 0 => 7
  | 208, 0 => 8
  | 209, 0 => 9
  | 210, 0 => 10
  | 213, 0 => 35
  | 214, 0 => 36
  | 215, 0 => 37
  | 216, 0 => 38
  | 217, 0 => 39
  | 218, 0 => 40
  | 219, 0 => 41
  | 300, 0 => 12
  | 300, 1 => 24
  | 300, 2 => 84
  | 301, 0 => 13
  | 301, 1 => 25
  | 301, 2 => 85
  | 302, 0 => 22
  | 302, 1 => 34
  | 302, 2 => 94
  | 404, 0 => 43
  | 404, 1 => 47
  | 404, 2 => 51
  | 404, 3 => 55
  | 405, 0 => 44
  | 405, 1 => 48
  | 405, 2 => 52
  | 405, 3 => 56
  | 406, 0 => 45
  | 406, 1 => 49
  | 406, 2 => 53
  | 406, 3 => 57
  | 705, 0 => 62
  | 706, 0 => 63
  | 802, 0 => 65
  | 803, 0 => 66
  | 804, 0 => 67
  | 805, 0 => 68
  | 806, 0 => 69
  | 807, 0 => 70
  | 808, 0 => 71
  | 809, 0 => 72
  | 810, 0 => 73
  | 811, 0 => 74
  | 812, 0 => 75
  | 815, 0 => 76
  | 816, 0 => 77
  | 817, 0 => 78
  | 818, 0 => 79
  | 819, 0 => 80
  | 820, 0 => 81
  | _, _ => 999
def alen (f : Nat) : Nat := match f with
  | 109 => 61
  | 200 => 8
  | 201 => 8
  | 206 => 4
  | 207 => 48
  | 208 => 48
  | 209 => 48
  | 210 => 48
  | 213 => 96
  | 214 => 384
  | 215 => 97
  | 216 => 400
  | 217 => 400
  | 218 => 400
  | 219 => 400
  | 300 => 8
  | 301 => 8
  | 302 => 4
  | 404 => 8
  | 405 => 8
  | 406 => 31
  | 705 => 3
  | 706 => 8
  | 802 => 96
  | 803 => 768
  | 804 => 768
  | 805 => 96
  | 806 => 400
  | 807 => 768
  | 808 => 768
  | 809 => 768
  | 810 => 768
  | 811 => 768
  | 812 => 768
  | 815 => 768
  | 816 => 6144
  | 817 => 6144
  | 818 => 768
  | 819 => 3840
  | 820 => 3840
  | _ => 0
def akd (f : Nat) : Nat := match f with
  | 109 => 101
  | 200 => 101
  | 201 => 101
  | 206 => 107
  | 207 => 106
  | 208 => 101
  | 209 => 101
  | 210 => 103
  | 213 => 102
  | 214 => 101
  | 215 => 101
  | 216 => 101
  | 217 => 101
  | 218 => 101
  | 219 => 101
  | 300 => 101
  | 301 => 110
  | 302 => 101
  | 404 => 106
  | 405 => 101
  | 406 => 102
  | 705 => 108
  | 706 => 109
  | 802 => 101
  | 803 => 101
  | 804 => 101
  | 805 => 101
  | 806 => 101
  | 807 => 101
  | 808 => 101
  | 809 => 101
  | 810 => 101
  | 811 => 101
  | 812 => 103
  | 815 => 101
  | 816 => 101
  | 817 => 101
  | 818 => 101
  | 819 => 101
  | 820 => 101
  | _ => 0
def carr (f : Nat) : Bool := decide (akd f ≠ 0)
def qoff (o k : Nat) : Nat := match o, k with
  | 0, 0 => 14
  | 0, 1 => 15
  | 0, 2 => 16
  | 0, 3 => 17
  | 0, 4 => 18
  | 0, 5 => 19
  | 0, 6 => 20
  | 0, 7 => 21
  | 1, 0 => 26
  | 1, 1 => 27
  | 1, 2 => 28
  | 1, 3 => 29
  | 1, 4 => 30
  | 1, 5 => 31
  | 1, 6 => 32
  | 1, 7 => 33
  | 2, 0 => 86
  | 2, 1 => 87
  | 2, 2 => 88
  | 2, 3 => 89
  | 2, 4 => 90
  | 2, 5 => 91
  | 2, 6 => 92
  | 2, 7 => 93
  | _, _ => 999
def akey (a : Nat) : Nat := match a with
  | 4 => 2000
  | 5 => 2010
  | 7 => 2070
  | 8 => 2080
  | 9 => 2090
  | 10 => 2100
  | 12 => 3000
  | 14 => 20000
  | 15 => 20001
  | 16 => 20002
  | 17 => 20003
  | 18 => 20004
  | 19 => 20005
  | 20 => 20006
  | 21 => 20007
  | 22 => 3020
  | 24 => 3001
  | 26 => 20008
  | 27 => 20009
  | 28 => 20010
  | 29 => 20011
  | 30 => 20012
  | 31 => 20013
  | 32 => 20014
  | 33 => 20015
  | 34 => 3021
  | 35 => 2130
  | 36 => 2140
  | 37 => 2150
  | 38 => 2160
  | 39 => 2170
  | 40 => 2180
  | 41 => 2190
  | 43 => 4040
  | 44 => 4050
  | 45 => 4060
  | 47 => 4041
  | 48 => 4051
  | 49 => 4061
  | 51 => 4042
  | 52 => 4052
  | 53 => 4062
  | 55 => 4043
  | 56 => 4053
  | 57 => 4063
  | 62 => 7050
  | 63 => 7060
  | 65 => 8020
  | 66 => 8030
  | 67 => 8040
  | 68 => 8050
  | 69 => 8060
  | 70 => 8070
  | 71 => 8080
  | 72 => 8090
  | 73 => 8100
  | 74 => 8110
  | 75 => 8120
  | 76 => 8150
  | 77 => 8160
  | 78 => 8170
  | 79 => 8180
  | 80 => 8190
  | 81 => 8200
  | 82 => 1090
  | 84 => 3002
  | 86 => 20016
  | 87 => 20017
  | 88 => 20018
  | 89 => 20019
  | 90 => 20020
  | 91 => 20021
  | 92 => 20022
  | 93 => 20023
  | 94 => 3022
  | _ => 0
def csk (f : Nat) : Bool := match f with
  | 100 => true
  | 105 => true
  | 106 => true
  | 107 => true
  | 108 => true
  | 110 => true
  | 202 => true
  | 203 => true
  | 204 => true
  | 205 => true
  | 220 => true
  | 221 => true
  | 303 => true
  | 400 => true
  | 401 => true
  | 402 => true
  | 403 => true
  | 501 => true
  | 502 => true
  | 503 => true
  | 504 => true
  | 605 => true
  | 606 => true
  | 607 => true
  | 707 => true
  | 708 => true
  | 709 => true
  | 813 => true
  | 814 => true
  | 821 => true
  | 822 => true
  | _ => false
def cnum (f a : Nat) : Nat := match f / 100, a with
  | 1, 0 => 0
  | 2, 3 => 0
  | 3, 11 => 0
  | 3, 23 => 1
  | 3, 83 => 2
  | 4, 42 => 0
  | 4, 46 => 1
  | 4, 50 => 2
  | 4, 54 => 3
  | 5, 58 => 0
  | 6, 58 => 0
  | 5, 61 => 1
  | 7, 61 => 0
  | 8, 64 => 0
  | _, _ => 9
def ckd (c o : Nat) : Nat := match c with
  | 1 => 2
  | 2 => 3
  | 3 => 4
  | 4 => 5
  | 5 => 7 + o % 2
  | 8 => 9
  | _ => 0
def cref (f : Nat) : Nat := match f with
  | 101 => 2
  | 102 => 5
  | 103 => 5
  | 104 => 8
  | 111 => 3
  | 211 => 3
  | 212 => 3
  | 500 => 2
  | 800 => 2
  | 801 => 5
  | _ => 0
def crin (f : Nat) : Int := match f with
  | 101 => 0
  | 102 => 0
  | 103 => 1
  | 104 => 0
  | 111 => 2
  | 211 => 0
  | 212 => 1
  | 500 => 0
  | 800 => 0
  | 801 => 1
  | _ => 0
def fcl (f : Nat) : Nat := if f / 100 = 6 ∨ f / 100 = 7 then 5 else f / 100
/-- the object's number that a field is kept by -/
def cix (f : Nat) (o : Int) : Nat := if f / 100 = 6 ∨ f / 100 = 7 then 0 else o.toNat % cni (f / 100)
def cad (B c : Nat) (o : Int) : Int := ((B + coff c (o.toNat % cni c) : Nat) : Int)
def caa (B f : Nat) (o : Int) : Int := ((B + aoff f (cix f o) : Nat) : Int)
def cqa (B : Nat) (o k : Int) : Int := ((B + qoff (o.toNat % 3) (k.toNat % 8) : Nat) : Int)
/-- a routine, or null -/
def radr (B : Nat) (p : Int) : Int := if p = -1 then -1 else cad B 4 p
def cgo (f c : Nat) (o : Int) : Bool := if f / 100 = 6 then c == 5 && o.toNat % 2 == 0 else if f / 100 = 7 then c == 5 && o.toNat % 2 == 1 else c == f / 100
def cw (B : Nat) (μ : cM) : zM :=
  (fun f a => if B ≤ a ∧ csk f = true ∧ cnum f (a - B) < 9 then (if f = 607 then radr B (μ.1.1 607 0) else μ.1.1 f (cnum f (a - B))) else zF μ.2 f a,
   fun a i => if B ≤ a ∧ akey (a - B) ≠ 0 then μ.1.2 (akey (a - B)) i else zA μ.2 a i, zK μ.2, zN μ.2, zU μ.2, zE μ.2)
/-- the fixed objects are where they are -/
def treg (k : Nat) : Bool := k == 10 || k == 101 || k == 102 || k == 103
/-- the twin and the law's own array are as they were in τ -/
def cT (B : Nat) (τ σ : zM) : Prop := B + 154 ≤ zN σ ∧ ∀ a, B + 95 ≤ a → a < B + 154 → treg (zK τ a).1 = true ∧ zK σ a = zK τ a ∧ (∀ f, zF σ f a = zF τ f a) ∧ zA σ a = zA τ a
def cOK (B : Nat) (τ σ : zM) : Prop :=
  (∀ c o, c < 9 → ckd c o ≠ 0 → zK σ (B + coff c (o % cni c)) = (ckd c o, 0)) ∧
  (∀ f o, carr f = true → zF σ f (B + coff (fcl f) (if f / 100 = 7 then 1 else o % cni (fcl f))) = ((B + aoff f (if f / 100 = 7 then 0 else o % cni (f / 100)) : Nat) : Int) ∧ zK σ (B + aoff f (if f / 100 = 7 then 0 else o % cni (f / 100))) = (akd f, alen f)) ∧
  (∀ f o, cref f ≠ 0 → zF σ f (B + coff (fcl f) (o % cni (fcl f))) = cad B (cref f) (crin f)) ∧
  (∀ p, p < 4 → zA σ (B + aoff 206 0) p = ((B + coff 4 p : Nat) : Int)) ∧
  (∀ o k, o < 3 → k < 8 → zA σ (B + aoff 301 o) k = ((B + qoff o k : Nat) : Int) ∧ zK σ (B + qoff o k) = (101, 3)) ∧ B + 95 ≤ zN σ ∧ cT B τ σ
def hG (μ : cM) (f : Nat) (o : Int) : Int := μ.1.1 f (cix f o)
def hS (μ : cM) (f : Nat) (o : Int) (v : Int) : cM := ((fun g i => if g = f ∧ i = cix f o then v else μ.1.1 g i, μ.1.2), μ.2)
def hga (μ : cM) (f : Nat) (o i : Int) : Option Int := if 0 ≤ i ∧ i < alen f then some (μ.1.2 (10 * f + cix f o) i.toNat) else none
def hA (μ : cM) (k i : Nat) (v : Int) : cM := ((μ.1.1, fun g j => if g = k ∧ j = i then v else μ.1.2 g j), μ.2)
def hpa (μ : cM) (f : Nat) (o i v : Int) : Option cM := if 0 ≤ i ∧ i < alen f then some (hA μ (10 * f + cix f o) i.toNat v) else none
def hpr (μ : cM) (f : Nat) (o i v : Int) : Option cM := if v = -1 ∨ (0 ≤ v ∧ zfit (akd f) (zK μ.2 v.toNat).1 = true) then hpa μ f o i v else none
def hgq (μ : cM) (o k i : Int) : Option Int := if 0 ≤ i ∧ i < 3 then some (μ.1.2 (akey (qoff (o.toNat % 3) (k.toNat % 8))) i.toNat) else none
def hpq (μ : cM) (o k i v : Int) : Option cM := if 0 ≤ i ∧ i < 3 then some (hA μ (akey (qoff (o.toNat % 3) (k.toNat % 8))) i.toNat v) else none
def hrt (p : Int) : Option Int := if 0 ≤ p ∧ p < 4 then some p else none
def hqr (k : Int) : Option Int := if 0 ≤ k ∧ k < 8 then some k else none
def hnn (p : Int) : Option Int := if p = -1 then none else some p
def hwl {α : Type} (μ : cM) (k : cM → Option α) : Option α := k μ
/-- what is done to the rest of the memory -/
def hup (μ : cM) (o : Option zM) : Option cM := o.map (fun s => (μ.1, s))
def hci {α : Type} (o : Option cO) (k : Int → cM → Option α) : Option α := match o with
  | some (0, (0, v), μ) => k v μ
  | _ => none
def hcj {α : Type} (o : Option cO) (k : Int → cM → Option α) : Option α := match o with
  | some (0, (1, v), μ) => k v μ
  | _ => none
def hcr {α : Type} (o : Option cO) (k : Int → cM → Option α) : Option α := match o with
  | some (0, (2, v), μ) => k v μ
  | _ => none
def hcv {α : Type} (o : Option cO) (k : cM → Option α) : Option α := match o with
  | some (0, (3, 0), μ) => k μ
  | _ => none
def hciT {α : Type} (o : Option cO) (t : Nat → Int → cM → Option α) (k : Int → cM → Option α) : Option α := match o with
  | some (0, (0, v), μ) => k v μ
  | some (n + 1, (2, v), μ) => t n v μ
  | _ => none
def hcjT {α : Type} (o : Option cO) (t : Nat → Int → cM → Option α) (k : Int → cM → Option α) : Option α := match o with
  | some (0, (1, v), μ) => k v μ
  | some (n + 1, (2, v), μ) => t n v μ
  | _ => none
def hcrT {α : Type} (o : Option cO) (t : Nat → Int → cM → Option α) (k : Int → cM → Option α) : Option α := match o with
  | some (0, (2, v), μ) => k v μ
  | some (n + 1, (2, v), μ) => t n v μ
  | _ => none
def hcvT {α : Type} (o : Option cO) (t : Nat → Int → cM → Option α) (k : cM → Option α) : Option α := match o with
  | some (0, (3, 0), μ) => k μ
  | some (n + 1, (2, v), μ) => t n v μ
  | _ => none
def hf (B : Nat) (o : cO) : zO := (o.1, o.2.1, cw B o.2.2)
section CW
variable {B : Nat} {τ : zM} {μ : cM} {α β : Type} {φ : β → α}
theorem cT1 {f : Nat} (h : csk f = true) : ∀ c, c < 9 → ∀ o, o < 12 → cgo f c ((o : Nat) : Int) = true → cnum f (coff c (o % cni c)) = (if f / 100 = 6 ∨ f / 100 = 7 then 0 else o % cni (f / 100)) ∧ zkf f (ckd c o) = true ∧ ckd c o ≠ 0 ∧ coff c (o % cni c) < 95 := by
  unfold csk at h
  split at h <;> first | decide +kernel | cases h
theorem cT3 {f : Nat} (h : csk f = true) : ∀ a, a < 95 → cnum f a < 9 → a = coff (fcl f) (if f / 100 = 7 then 1 else cnum f a) := by
  unfold csk at h
  split at h <;> first | decide +kernel | cases h
theorem cT4 (f a : Nat) (ha : 95 ≤ a) : cnum f a = 9 := by
  unfold cnum
  split <;> first | omega | rfl
theorem aT4 (a : Nat) (ha : 95 ≤ a) : akey a = 0 := by
  unfold akey
  split <;> first | omega | rfl
theorem cT2 {f : Nat} (h : carr f = true) : f < 900 ∧ csk f = false ∧ ∀ c, c < 9 → ∀ o, o < 12 → cgo f c ((o : Nat) : Int) = true → zkf f (ckd c o) = true ∧ ckd c o ≠ 0 ∧ coff c (o % cni c) < 95 ∧ c = fcl f ∧ coff c (o % cni c) = coff (fcl f) (if f / 100 = 7 then 1 else o % cni (fcl f)) := by
  unfold carr akd at h
  split at h <;> first | decide +kernel | cases h
theorem aT1 {f : Nat} (h : carr f = true) : ∀ o, o < 12 → aoff f (if f / 100 = 6 ∨ f / 100 = 7 then 0 else o % cni (f / 100)) < 95 ∧ (if f / 100 = 7 then 0 else o % cni (f / 100)) = (if f / 100 = 6 ∨ f / 100 = 7 then 0 else o % cni (f / 100)) ∧ (f = 206 ∨ f = 301 ∨ akey (aoff f (if f / 100 = 6 ∨ f / 100 = 7 then 0 else o % cni (f / 100))) = 10 * f + (if f / 100 = 6 ∨ f / 100 = 7 then 0 else o % cni (f / 100))) := by
  unfold carr akd at h
  split at h <;> first | decide +kernel | cases h
theorem rT1 {f : Nat} (h : cref f ≠ 0) : f < 900 ∧ csk f = false ∧ ∀ c, c < 9 → ∀ o, o < 12 → cgo f c ((o : Nat) : Int) = true → zkf f (ckd c o) = true ∧ ckd c o ≠ 0 ∧ coff c (o % cni c) < 95 ∧ c = fcl f := by
  unfold cref at h
  split at h <;> first | decide +kernel | (exact absurd rfl h)
theorem aT5 : ∀ a, a < 95 → akey a ≠ 0 → (akey a < 20000 ∧ carr (akey a / 10) = true ∧ aoff (akey a / 10) (akey a % 10) = a ∧ akey a % 10 < 4 ∧ (akey a / 10 / 100 = 7 → akey a % 10 = 0) ∧ (akey a / 10 / 100 ≠ 7 → akey a % 10 % cni (akey a / 10 / 100) = akey a % 10) ∧ akd (akey a / 10) ≠ 104 ∧ akd (akey a / 10) ≠ 105) ∨ (20000 ≤ akey a ∧ (akey a - 20000) / 8 < 3 ∧ qoff ((akey a - 20000) / 8) ((akey a - 20000) % 8) = a) := by decide +kernel
theorem aT6 : ∀ a, a < 95 → ∀ b, b < 95 → akey a ≠ 0 → akey a = akey b → a = b := by decide +kernel
theorem qT : ∀ o, o < 3 → ∀ k, k < 8 → qoff o k < 95 ∧ akey (qoff o k) ≠ 0 ∧ aoff 301 o < 95 ∧ akey (aoff 301 o) = 0 := by decide +kernel
theorem rT : aoff 206 0 < 95 ∧ akey (aoff 206 0) = 0 ∧ ∀ p, p < 4 → coff 4 p < 95 := by decide +kernel
theorem cob : ∀ c, c < 9 → ∀ o, o < 4 → ckd c o ≠ 0 → coff c (o % cni c) < 95 := by decide +kernel
theorem aob {f : Nat} (h : carr f = true) : f < 900 ∧ ∀ o, o < 4 → coff (fcl f) (if f / 100 = 7 then 1 else o % cni (fcl f)) < 95 ∧ aoff f (if f / 100 = 7 then 0 else o % cni (f / 100)) < 95 ∧ akd f ≠ 104 ∧ akd f ≠ 105 := by
  unfold carr akd at h
  split at h <;> first | decide +kernel | cases h
theorem rob {f : Nat} (h : cref f ≠ 0) : f < 900 ∧ ∀ o, o < 4 → coff (fcl f) (o % cni (fcl f)) < 95 := by
  unfold cref at h
  split at h <;> first | decide +kernel | (exact absurd rfl h)
theorem m12 (c n : Nat) : n % 12 % cni c = n % cni c := by
  unfold cni
  split <;> omega
theorem mlt (c n : Nat) : n % cni c < 4 := by
  unfold cni
  split <;> omega
theorem mm (c n : Nat) : n % cni c % cni c = n % cni c := Nat.mod_mod _ _
theorem cgo_mod {f c : Nat} {o : Int} (h : cgo f c o = true) : cgo f c (((o.toNat % 12 : Nat)) : Int) = true := by
  unfold cgo at h ⊢
  rw [Int.toNat_natCast]
  have e : o.toNat % 12 % 2 = o.toNat % 2 := by omega
  rw [e]
  exact h
theorem cixe (f : Nat) (o : Int) : cix f o = if f / 100 = 6 ∨ f / 100 = 7 then 0 else o.toNat % 12 % cni (f / 100) := by
  unfold cix
  rw [m12]
theorem cade (B c : Nat) (o : Int) : (cad B c o).toNat = B + coff c (o.toNat % 12 % cni c) := by
  unfold cad
  rw [m12, Int.toNat_natCast]
theorem caae (B f : Nat) (o : Int) : (caa B f o).toNat = B + aoff f (cix f o) := by
  unfold caa
  rw [Int.toNat_natCast]
theorem cwK (B : Nat) (μ : cM) (a : Nat) : zK (cw B μ) a = zK μ.2 a := rfl
theorem cwFd {f : Nat} (hf : csk f = false) (a : Nat) : zF (cw B μ) f a = zF μ.2 f a := by
  show (if _ then _ else _) = _
  rw [if_neg (by rw [hf]; simp)]
theorem cwF {f c : Nat} {o : Int} (hf : csk f = true) (hc : c < 9) (hg : cgo f c o = true) : zF (cw B μ) f (B + coff c (o.toNat % 12 % cni c)) = if f = 607 then radr B (μ.1.1 607 0) else hG μ f o := by
  have t := cT1 hf c hc (o.toNat % 12) (Nat.mod_lt _ (by decide)) (cgo_mod hg)
  show (if B ≤ B + coff c (o.toNat % 12 % cni c) ∧ csk f = true ∧ cnum f (B + coff c (o.toNat % 12 % cni c) - B) < 9 then _ else _) = _
  rw [Nat.add_sub_cancel_left, t.1, ← cixe, if_pos ⟨Nat.le_add_right _ _, hf, by
    unfold cix
    split
    · omega
    · have := mlt (f / 100) o.toNat; omega⟩]
  rfl
theorem cKc (h : cOK B τ μ.2) {c : Nat} {o : Int} (hc : c < 9) (hk : ckd c (o.toNat % 12) ≠ 0) : zK (cw B μ) (cad B c o).toNat = (ckd c (o.toNat % 12), 0) := by
  rw [cade, cwK]
  have := h.1 c (o.toNat % 12) hc hk
  exact this
theorem cadp (B c : Nat) (o : Int) : 0 ≤ cad B c o := Int.natCast_nonneg _
theorem caap (B f : Nat) (o : Int) : 0 ≤ caa B f o := Int.natCast_nonneg _
def hR {α β : Type} (φ : β → α) (P : β → Prop) (o : Option α) (o' : Option β) : Prop := o = o'.map φ ∧ ∀ r, o' = some r → P r
variable {P : β → Prop}
theorem he_gs (h : cOK B τ μ.2) {f c : Nat} {o : Int} {k : Int → Option α} {k' : Int → Option β} (hf : csk f = true ∧ f ≠ 607 ∧ c < 9) (hg : cgo f c o = true) (kk : ∀ v, hR φ P (k v) (k' v)) : hR φ P ((zgf (cw B μ) f (cad B c o)).bind k) (zlet (hG μ f o) k') := by
  have t := cT1 hf.1 c hf.2.2 (o.toNat % 12) (Nat.mod_lt _ (by decide)) (cgo_mod hg)
  have e : zgf (cw B μ) f (cad B c o) = some (hG μ f o) := by
    unfold zgf
    rw [cKc h hf.2.2 t.2.2.1, if_pos ⟨cadp _ _ _, t.2.1⟩, cade, cwF hf.1 hf.2.2 hg, if_neg hf.2.1]
  rw [e]
  exact kk _
theorem he_g7 (h : cOK B τ μ.2) {k : Int → Option α} {k' : Int → Option β} (kk : ∀ p, hR φ P (k (radr B p)) (k' p)) : hR φ P ((zgf (cw B μ) 607 (cad B 5 0)).bind k) (zlet (hG μ 607 0) k') := by
  have t := cT1 (f := 607) rfl 5 (by decide) 0 (by decide) rfl
  have e : zgf (cw B μ) 607 (cad B 5 0) = some (radr B (hG μ 607 0)) := by
    unfold zgf
    rw [cKc h (by decide) t.2.2.1, if_pos ⟨cadp _ _ _, t.2.1⟩, cade, cwF rfl (by decide) rfl, if_pos rfl]
    rfl
  rw [e]
  exact kk _
theorem he_gr (h : cOK B τ μ.2) {f c : Nat} {o : Int} {k : Int → Option α} {o' : Option β} (hf : cref f ≠ 0 ∧ c < 9) (hg : cgo f c o = true) (kk : hR φ P (k (cad B (cref f) (crin f))) o') : hR φ P ((zgf (cw B μ) f (cad B c o)).bind k) o' := by
  obtain ⟨t1, t2, t3⟩ := rT1 hf.1
  have t := t3 c hf.2 (o.toNat % 12) (Nat.mod_lt _ (by decide)) (cgo_mod hg)
  have e : zgf (cw B μ) f (cad B c o) = some (cad B (cref f) (crin f)) := by
    unfold zgf
    rw [cKc h hf.2 t.2.1, if_pos ⟨cadp _ _ _, t.1⟩, cade, cwFd t2, t.2.2.2]
    rw [h.2.2.1 f (o.toNat % 12) hf.1]
  rw [e]
  exact kk
theorem he_gA (h : cOK B τ μ.2) {f c : Nat} {o : Int} {k : Int → Option α} {o' : Option β} (hf : carr f = true ∧ c < 9) (hg : cgo f c o = true) (kk : hR φ P (k (caa B f o)) o') : hR φ P ((zgf (cw B μ) f (cad B c o)).bind k) o' := by
  obtain ⟨t1, t2, t3⟩ := cT2 hf.1
  have t := t3 c hf.2 (o.toNat % 12) (Nat.mod_lt _ (by decide)) (cgo_mod hg)
  have e : zgf (cw B μ) f (cad B c o) = some (caa B f o) := by
    unfold zgf
    rw [cKc h hf.2 t.2.1, if_pos ⟨cadp _ _ _, t.1⟩, cade, cwFd t2, t.2.2.2.2]
    rw [(h.2.1 f (o.toNat % 12) hf.1).1, (aT1 hf.1 (o.toNat % 12) (Nat.mod_lt _ (by decide))).2.1, ← cixe]
    rfl
  rw [e]
  exact kk
theorem cKa (h : cOK B τ μ.2) {f : Nat} (o : Int) (hf : carr f = true) : zK (cw B μ) (caa B f o).toNat = (akd f, alen f) := by
  rw [caae, cwK, cixe, ← (aT1 hf (o.toNat % 12) (Nat.mod_lt _ (by decide))).2.1]
  exact (h.2.1 f (o.toNat % 12) hf).2
theorem cwA {f : Nat} {o : Int} (hf : carr f = true ∧ f ≠ 206 ∧ f ≠ 301) (i : Nat) : zA (cw B μ) (B + aoff f (cix f o)) i = μ.1.2 (10 * f + cix f o) i := by
  have t := aT1 hf.1 (o.toNat % 12) (Nat.mod_lt _ (by decide))
  rw [← cixe] at t
  have t2 : akey (aoff f (cix f o)) = 10 * f + cix f o := by
    rcases t.2.2 with h | h | h
    · exact absurd h hf.2.1
    · exact absurd h hf.2.2
    · exact h
  have h0 : f ≠ 0 := fun e => by rw [e] at hf; exact absurd hf.1 (by decide)
  show (if B ≤ B + aoff f (cix f o) ∧ akey (B + aoff f (cix f o) - B) ≠ 0 then μ.1.2 (akey (B + aoff f (cix f o) - B)) i else _) = _
  rw [Nat.add_sub_cancel_left, t2, if_pos ⟨Nat.le_add_right _ _, by omega⟩]
theorem he_ga (h : cOK B τ μ.2) {f kd : Nat} {o i : Int} {k : Int → Option α} {k' : Int → Option β} (hf : (carr f = true ∧ f ≠ 206 ∧ f ≠ 301) ∧ akd f = kd) (kk : ∀ v, hR φ P (k v) (k' v)) : hR φ P ((zga (cw B μ) kd (caa B f o) i).bind k) ((hga μ f o i).bind k') := by
  have e : zga (cw B μ) kd (caa B f o) i = hga μ f o i := by
    unfold zga hga
    rw [cKa h o hf.1.1]
    by_cases hi : 0 ≤ i ∧ i < alen f
    · rw [if_pos hi, if_pos ⟨caap _ _ _, hf.2, hi.1, hi.2⟩, caae, cwA hf.1]
    · rw [if_neg hi, if_neg (fun q => hi q.2.2)]
  rw [e]
  cases hga μ f o i with
  | none => exact ⟨rfl, fun r hr => by cases hr⟩
  | some v => exact kk v
theorem he_la (h : cOK B τ μ.2) {f kd : Nat} {o : Int} {k : Int → Option α} {k' : Int → Option β} (hf : carr f = true ∧ akd f = kd) (kk : ∀ v, hR φ P (k v) (k' v)) : hR φ P ((zla (cw B μ) kd (caa B f o)).bind k) (zlet (alen f : Int) k') := by
  have e : zla (cw B μ) kd (caa B f o) = some (alen f : Int) := by
    unfold zla
    rw [cKa h o hf.1, if_pos ⟨caap _ _ _, hf.2⟩]
  rw [e]
  exact kk _
theorem cw_S {f c : Nat} {o v : Int} (hf : csk f = true ∧ c < 9) (hg : cgo f c o = true) (w : Int) (hw : (if f = 607 then radr B w else w) = v) : zsF (cw B μ) f (B + coff c (o.toNat % 12 % cni c)) v = cw B (hS μ f o w) := by
  have t := cT1 hf.1 c hf.2 (o.toNat % 12) (Nat.mod_lt _ (by decide)) (cgo_mod hg)
  rw [← cixe] at t
  unfold zsF cw hS
  congr 1
  funext f' a'
  dsimp only
  by_cases h1 : f' = f
  · subst h1
    by_cases h2 : a' = B + coff c (o.toNat % 12 % cni c)
    · subst h2
      rw [if_pos ⟨rfl, rfl⟩, Nat.add_sub_cancel_left, t.1, if_pos ⟨Nat.le_add_right _ _, hf.1, by
        unfold cix
        split
        · omega
        · have := mlt (f' / 100) o.toNat; omega⟩]
      rw [← hw]
      by_cases h7 : f' = 607
      · subst h7
        rw [if_pos rfl, if_pos rfl, if_pos ⟨rfl, rfl⟩]
      · rw [if_neg h7, if_neg h7, if_pos ⟨rfl, rfl⟩]
    · rw [if_neg (fun q => h2 q.2)]
      by_cases hc : B ≤ a' ∧ csk f' = true ∧ cnum f' (a' - B) < 9
      · show (if B ≤ a' ∧ csk f' = true ∧ cnum f' (a' - B) < 9 then _ else _) = _
        rw [if_pos hc, if_pos hc]
        have hlt : a' - B < 95 := by
          rcases Nat.lt_or_ge (a' - B) 95 with h | h
          · exact h
          · have := cT4 f' (a' - B) h; omega
        have hne : cnum f' (a' - B) ≠ cix f' o := by
          intro q
          have u1 := cT3 hf.1 (a' - B) hlt hc.2.2
          have u2 := cT3 hf.1 (coff c (o.toNat % 12 % cni c)) t.2.2.2 (by rw [t.1, ← q]; exact hc.2.2)
          rw [t.1, ← q] at u2
          exact h2 (by omega)
        by_cases h7 : f' = 607
        · subst h7
          exfalso
          have u1 := cT3 hf.1 (a' - B) hlt hc.2.2
          have hr : cix 607 o = 0 := rfl
          have hz : cnum 607 (a' - B) = 0 := by
            have : ∀ a, a < 95 → cnum 607 a < 9 → cnum 607 a = 0 := by decide +kernel
            exact this _ hlt hc.2.2
          exact hne (by rw [hz, hr])
        · rw [if_neg h7, if_neg h7, if_neg (fun q => hne q.2)]
      · show (if B ≤ a' ∧ csk f' = true ∧ cnum f' (a' - B) < 9 then _ else _) = _
        rw [if_neg hc, if_neg hc]
  · rw [if_neg (fun q => h1 q.1)]
    show (if B ≤ a' ∧ csk f' = true ∧ cnum f' (a' - B) < 9 then _ else _) = _
    split
    · split
      · rename_i h7
        rw [if_neg (fun q => h1 (by rw [h7]; exact q.1))]
      · rw [if_neg (fun q => h1 q.1)]
    · rfl
theorem he_ps (h : cOK B τ μ.2) {f c : Nat} {o v : Int} {k : zM → Option α} {k' : cM → Option β} (hf : csk f = true ∧ f ≠ 607 ∧ c < 9) (hg : cgo f c o = true) (kk : ∀ μ', cOK B τ μ'.2 → hR φ P (k (cw B μ')) (k' μ')) : hR φ P ((zpf (cw B μ) f (cad B c o) v).bind k) (hwl (hS μ f o v) k') := by
  have t := cT1 hf.1 c hf.2.2 (o.toNat % 12) (Nat.mod_lt _ (by decide)) (cgo_mod hg)
  have e : zpf (cw B μ) f (cad B c o) v = some (cw B (hS μ f o v)) := by
    unfold zpf
    rw [cKc h hf.2.2 t.2.2.1, if_pos ⟨cadp _ _ _, t.2.1⟩, cade, cw_S ⟨hf.1, hf.2.2⟩ hg v (by rw [if_neg hf.2.1])]
  rw [e]
  exact kk _ h
theorem he_p7 (h : cOK B τ μ.2) {q : Int} {k : zM → Option α} {k' : cM → Option β} (hq : q ≠ -1) (kk : ∀ μ', cOK B τ μ'.2 → hR φ P (k (cw B μ')) (k' μ')) : hR φ P ((zpf (cw B μ) 607 (cad B 5 0) (cad B 4 q)).bind k) (hwl (hS μ 607 0 q) k') := by
  have t := cT1 (f := 607) rfl 5 (by decide) 0 (by decide) rfl
  have e : zpf (cw B μ) 607 (cad B 5 0) (cad B 4 q) = some (cw B (hS μ 607 0 q)) := by
    unfold zpf
    rw [cKc h (by decide) t.2.2.1, if_pos ⟨cadp _ _ _, t.2.1⟩, cade, cw_S ⟨rfl, by decide⟩ rfl q (by rw [if_pos rfl]; unfold radr; rw [if_neg hq])]
  rw [e]
  exact kk _ h
end CW

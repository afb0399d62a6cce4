/-! ===== the abstract machine: values, heap, operations (pure) ===== -/
abbrev AV : Type := Int ⊕ (Option Nat ⊕ Int)
abbrev iV (z : Int) : AV := Sum.inl z
abbrev rV (r : Option Nat) : AV := Sum.inr (Sum.inl r)
abbrev jV (z : Int) : AV := Sum.inr (Sum.inr z)
def iI (z : Int) : Int32 := Int32.ofInt z
def jJ (z : Int) : Int64 := Int64.ofInt z
def tv (v : AV) : Value := match v with
  | .inl z => .int (iI z)
  | .inr (.inl r) => va_rf r
  | .inr (.inr z) => .long (jJ z)
def nrm (z : Int) : Int := (iI z).toInt
def nrj (z : Int) : Int := (jJ z).toInt
theorem nrm_eq {z : Int} (h : -2147483648 ≤ z) (h2 : z < 2147483648) : nrm z = z := Int32.toInt_ofInt_of_le h h2
theorem nrj_eq {z : Int} (h : -9223372036854775808 ≤ z) (h2 : z < 9223372036854775808) : nrj z = z := Int64.toInt_ofInt_of_le h h2
theorem nrm_lo (z : Int) : -2147483648 ≤ nrm z := by
  have := Int32.le_toInt (iI z)
  unfold nrm
  omega
theorem nrm_hi (z : Int) : nrm z < 2147483648 := by
  have := Int32.toInt_lt (iI z)
  unfold nrm
  omega
theorem iI_nrm (z : Int) : iI (nrm z) = iI z := Int32.ofInt_toInt _
theorem iI_of (v : Int32) : iI v.toInt = v := Int32.ofInt_toInt _
theorem jJ_of (v : Int64) : jJ v.toInt = v := Int64.ofInt_toInt _
theorem nrm_nrm (z : Int) : nrm (nrm z) = nrm z := by unfold nrm; rw [iI_of]
theorem nrm_of (v : Int32) : nrm v.toInt = v.toInt := by unfold nrm; rw [iI_of]
theorem iI_add (x y : Int) : iI x + iI y = iI (x + y) := (Int32.ofInt_add x y).symm
theorem iI_sub (x y : Int) : iI x - iI y = iI (x - y) := (Int32.ofInt_sub x y).symm
theorem iI_mul (x y : Int) : iI x * iI y = iI (x * y) := (Int32.ofInt_mul x y).symm
theorem iI_neg (x : Int) : -iI x = iI (-x) := (Int32.ofInt_neg x).symm
theorem jJ_add (x y : Int) : jJ x + jJ y = jJ (x + y) := (Int64.ofInt_add x y).symm
theorem jJ_mul (x y : Int) : jJ x * jJ y = jJ (x * y) := (Int64.ofInt_mul x y).symm
theorem iI_eq (x y : Int) : iI x = iI y ↔ nrm x = nrm y := (Int32.toInt_inj).symm
theorem iI_lt (x y : Int) : iI x < iI y ↔ nrm x < nrm y := Int32.lt_iff_toInt_lt
theorem iI_le (x y : Int) : iI x ≤ iI y ↔ nrm x ≤ nrm y := Int32.le_iff_toInt_le
theorem nrm_0 : nrm 0 = 0 := by decide
theorem iI_0 : iI 0 = 0 := by decide
theorem iI_eq0 (x : Int) : iI x = 0 ↔ nrm x = 0 := by rw [← iI_0, iI_eq, nrm_0]
theorem iI_lt0 (x : Int) : iI x < 0 ↔ nrm x < 0 := by rw [← iI_0, iI_lt, nrm_0]
theorem iI_le0 (x : Int) : iI x ≤ 0 ↔ nrm x ≤ 0 := by rw [← iI_0, iI_le, nrm_0]
theorem iI_0le (x : Int) : 0 ≤ iI x ↔ 0 ≤ nrm x := by rw [← iI_0, iI_le, nrm_0]
theorem iI_0lt (x : Int) : 0 < iI x ↔ 0 < nrm x := by rw [← iI_0, iI_lt, nrm_0]
/-- the operations on ints that are not those of a ring: by their machine words -/
def dvI (x y : Int) : Int := (iI x / iI y).toInt
def rmI (x y : Int) : Int := (iI x - iI x / iI y * iI y).toInt
def anI (x y : Int) : Int := (iI x &&& iI y).toInt
def orI (x y : Int) : Int := (iI x ||| iI y).toInt
def xoI (x y : Int) : Int := (iI x ^^^ iI y).toInt
def slI (x y : Int) : Int := (iI x <<< (iI y &&& 31)).toInt
def srI (x y : Int) : Int := (iI x >>> (iI y &&& 31)).toInt
def suI (x y : Int) : Int := ((iI x).toUInt32 >>> ((iI y).toUInt32 &&& Int32.toUInt32 31)).toInt32.toInt
def i8I (x : Int) : Int := (iI x).toInt8.toInt32.toInt
def i16I (x : Int) : Int := (iI x).toInt16.toInt32.toInt
def chI (x : Int) : Int := ((iI x).toUInt32 % 65536).toInt32.toInt
def b1I (x : Int) : Int := (iI x &&& 1).toInt
def cmJ (x y : Int) : Int := if nrj y < nrj x then 1 else if nrj x = nrj y then 0 else -1
abbrev Ce : Type := Nat × Int × (Int → Int) × (Int → Option Nat)
abbrev Hp : Type := (Nat → Option Ce) × Nat × Nat × (Nat → Nat)
def fu {α : Type} (f : Int → α) (i : Int) (v : α) : Int → α := fun j => if j = i then v else f j
def upc (σ : Hp) (a : Nat) (c : Ce) : Hp := (fun b => if b = a then some c else σ.1 b, σ.2)
/-- a cell of a kind -/
def cel (σ : Hp) (t : Nat) (r : Option Nat) : Option (Nat × Ce) := r.bind fun a => (σ.1 a).bind fun c => if c.1 = t then some (a, c) else none
def gI (σ : Hp) (t : Nat) (r : Option Nat) (k : Int) : Option Int := (cel σ t r).bind fun q => some (q.2.2.2.1 k)
def gR (σ : Hp) (t : Nat) (r : Option Nat) (k : Int) : Option (Option Nat) := (cel σ t r).bind fun q => some (q.2.2.2.2 k)
def pI (σ : Hp) (t : Nat) (r : Option Nat) (k v : Int) : Option Hp := (cel σ t r).bind fun q => some (upc σ q.1 (t, q.2.2.1, fu q.2.2.2.1 k v, q.2.2.2.2))
def pZ (σ : Hp) (t : Nat) (r : Option Nat) (k v : Int) : Option Hp := if nrm v = 0 ∨ nrm v = 1 then pI σ t r k v else none
def pB (σ : Hp) (t : Nat) (r : Option Nat) (k v : Int) : Option Hp := if -128 ≤ nrm v ∧ nrm v ≤ 127 then pI σ t r k v else none
def pR (σ : Hp) (t : Nat) (r : Option Nat) (k : Int) (v : Option Nat) : Option Hp := (cel σ t r).bind fun q => some (upc σ q.1 (t, q.2.2.1, q.2.2.2.1, fu q.2.2.2.2 k v))
def aI (σ : Hp) (t : Nat) (r : Option Nat) (i : Int) : Option Int := (cel σ t r).bind fun q => if 0 ≤ nrm i ∧ nrm i < q.2.2.1 then some (q.2.2.2.1 (nrm i)) else none
def aR (σ : Hp) (t : Nat) (r : Option Nat) (i : Int) : Option (Option Nat) := (cel σ t r).bind fun q => if 0 ≤ nrm i ∧ nrm i < q.2.2.1 then some (q.2.2.2.2 (nrm i)) else none
def sI (σ : Hp) (t : Nat) (r : Option Nat) (i v : Int) : Option Hp := (cel σ t r).bind fun q => if 0 ≤ nrm i ∧ nrm i < q.2.2.1 then some (upc σ q.1 (t, q.2.2.1, fu q.2.2.2.1 (nrm i) v, q.2.2.2.2)) else none
def sR (σ : Hp) (t : Nat) (r : Option Nat) (i : Int) (v : Option Nat) : Option Hp := (cel σ t r).bind fun q => if 0 ≤ nrm i ∧ nrm i < q.2.2.1 then some (upc σ q.1 (t, q.2.2.1, q.2.2.2.1, fu q.2.2.2.2 (nrm i) v)) else none
def aL (σ : Hp) (t : Nat) (r : Option Nat) : Option Int := (cel σ t r).bind fun q => some q.2.2.1
/-- a new cell of n slots -/
def nC (σ : Hp) (c : Ce) (n : Nat) : Hp := (fun b => if b = σ.2.1 then some c else σ.1 b, σ.2.1 + 1, σ.2.2.1 + n, σ.2.2.2)
def nO (σ : Hp) (t n : Nat) : Hp := nC σ (t, n, fun _ => 0, fun _ => none) n
def nA (σ : Hp) (t : Nat) (n : Int) : Option Hp := if 0 ≤ nrm n ∧ nrm n ≤ 1000000 then some (nC σ (t, nrm n, fun _ => 0, fun _ => none) (nrm n).toNat) else none
/-- a call: its answer and its heap go on -/
def bn {α β : Type} (x : Option (α × Hp)) (f : α → Hp → Option β) : Option β := x.bind fun q => f q.1 q.2
def jn {α β : Type} (j : α) (f : α → β) : β := f j
theorem jn_elim {α β : Type} {J : α} {F : α → Option β} {out : β} {G : Prop} (h : jn J F = some out) (P : α → Prop) (hJ : P J) (k : ∀ j, P j → F j = some out → G) : G := k J hJ h
/-- arraycopy between cells of one kind -/
def cpI (f g : Int → Int) (sp dp n : Int) : Int → Int := fun k => if dp ≤ k ∧ k < dp + n then f (sp + (k - dp)) else g k
def acI (σ : Hp) (t : Nat) (r1 : Option Nat) (sp : Int) (r2 : Option Nat) (dp n : Int) : Option Hp := (cel σ t r1).bind fun q => (cel σ t r2).bind fun w =>
  if 0 ≤ nrm sp ∧ 0 ≤ nrm dp ∧ 0 ≤ nrm n ∧ nrm sp + nrm n ≤ q.2.2.1 ∧ nrm dp + nrm n ≤ w.2.2.1 then some (upc σ w.1 (t, w.2.2.1, cpI q.2.2.2.1 w.2.2.2.1 (nrm sp) (nrm dp) (nrm n), w.2.2.2.2)) else none

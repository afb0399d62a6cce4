set_option maxRecDepth 100000
set_option maxHeartbeats 1000000
/-! ===== PURE: what is typed, as tokens ===== -/
def ub (n : Int) (b : Int → Int) (p : Int) : Int := if n ≤ p then 0 else if b p < 0 then b p + 256 else b p
def WfB (n : Int) (b : Int → Int) : Prop := (0 ≤ n ∧ n ≤ 2000) ∧ ∀ i : Int, 0 ≤ i → i < n → -128 ≤ b i ∧ b i ≤ 127
def ltr (n : Int) (b : Int → Int) (p : Int) : Bool := decide (97 ≤ ub n b p ∧ ub n b p ≤ 122)
def dgt (n : Int) (b : Int → Int) (p : Int) : Bool := decide (48 ≤ ub n b p ∧ ub n b p ≤ 57)
def spc (n : Int) (b : Int → Int) (p : Int) : Bool := decide (p < n ∧ (ub n b p = 9 ∨ ub n b p = 10 ∨ ub n b p = 13 ∨ ub n b p = 32))
/-- how far a run goes -/
def runE (P : Int → Bool) : Nat → Int → Int
  | 0, p => p
  | f + 1, p => if P p = true then runE P f (p + 1) else p
theorem runE_in (P : Int → Bool) : ∀ (f : Nat) (p : Int), (∀ q : Int, p + f ≤ q → P q = false) → (p ≤ runE P f p ∧ runE P f p ≤ p + f) ∧ (∀ q : Int, p ≤ q → q < runE P f p → P q = true) ∧ P (runE P f p) = false := by
  intro f
  induction f with
  | zero => intro p h; exact ⟨⟨Int.le_refl _, by show p ≤ p + ((0 : Nat) : Int); omega⟩, fun q h0 h1 => by have h1 : q < p := h1; omega, h p (by omega)⟩
  | succ f ih =>
    intro p h
    rw [runE]
    by_cases c : P p = true
    · rw [if_pos c]
      obtain ⟨h1, h2, h3⟩ := ih (p + 1) (fun q hq => h q (by omega))
      refine ⟨by omega, fun q q0 q1 => ?_, h3⟩
      by_cases e : q = p
      · rw [e]; exact c
      · exact h2 q (by omega) q1
    · rw [if_neg c]
      exact ⟨by omega, fun q q0 q1 => by omega, by simpa using c⟩
/-- from the inside it goes as far -/
theorem runE_s (P : Int → Bool) {f g : Nat} {p q : Int} (h : ∀ x : Int, p + f ≤ x → P x = false) (hg : ∀ x : Int, q + g ≤ x → P x = false) (h0 : p ≤ q) (h1 : ∀ x : Int, p ≤ x → x < q → P x = true) : runE P g q = runE P f p := by
  obtain ⟨a1, a2, a3⟩ := runE_in P f p h
  obtain ⟨b1, b2, b3⟩ := runE_in P g q hg
  rcases Int.lt_trichotomy (runE P g q) (runE P f p) with c | c | c
  · have := a2 (runE P g q) (by omega) c
    rw [b3] at this; exact absurd this (by decide)
  · exact c
  · by_cases d : q ≤ runE P f p
    · have := b2 (runE P f p) d c
      rw [a3] at this; exact absurd this (by decide)
    · have := h1 (runE P f p) (by omega) (by omega)
      rw [a3] at this; exact absurd this (by decide)
def lE (n : Int) (b : Int → Int) (p : Int) : Int := runE (ltr n b) (n - p).toNat p
def dE (n : Int) (b : Int → Int) (p : Int) : Int := runE (dgt n b) (n - p).toNat p
def nE (n : Int) (b : Int → Int) (p : Int) : Int := runE (spc n b) (n - p).toNat p
section
variable {n : Int} {b : Int → Int}
theorem ltr_n {p : Int} (h : n ≤ p) : ltr n b p = false := by unfold ltr ub; rw [if_pos h]; decide
theorem dgt_n {p : Int} (h : n ≤ p) : dgt n b p = false := by unfold dgt ub; rw [if_pos h]; decide
theorem spc_n {p : Int} (h : n ≤ p) : spc n b p = false := by unfold spc; simp; omega
theorem lE_in {p : Int} : (p ≤ lE n b p ∧ (lE n b p ≤ n ∨ lE n b p = p)) ∧ (∀ q : Int, p ≤ q → q < lE n b p → ltr n b q = true) ∧ ltr n b (lE n b p) = false := by
  have h := runE_in (ltr n b) (n - p).toNat p (fun q hq => ltr_n (by omega))
  exact ⟨⟨h.1.1, by have := h.1.2; unfold lE; omega⟩, h.2⟩
theorem dE_in {p : Int} : (p ≤ dE n b p ∧ (dE n b p ≤ n ∨ dE n b p = p)) ∧ (∀ q : Int, p ≤ q → q < dE n b p → dgt n b q = true) ∧ dgt n b (dE n b p) = false := by
  have h := runE_in (dgt n b) (n - p).toNat p (fun q hq => dgt_n (by omega))
  exact ⟨⟨h.1.1, by have := h.1.2; unfold dE; omega⟩, h.2⟩
theorem nE_in {p : Int} : (p ≤ nE n b p ∧ (nE n b p ≤ n ∨ nE n b p = p)) ∧ (∀ q : Int, p ≤ q → q < nE n b p → spc n b q = true) ∧ spc n b (nE n b p) = false := by
  have h := runE_in (spc n b) (n - p).toNat p (fun q hq => spc_n (by omega))
  exact ⟨⟨h.1.1, by have := h.1.2; unfold nE; omega⟩, h.2⟩
theorem lE_f {p : Int} (h : ltr n b p = true) : p < lE n b p := by
  have g := lE_in (n := n) (b := b) (p := p)
  have := g.1.1
  by_cases e : lE n b p = p
  · have g2 := g.2.2; rw [e, h] at g2; exact absurd g2 (by decide)
  · omega
theorem dE_f {p : Int} (h : dgt n b p = true) : p < dE n b p := by
  have g := dE_in (n := n) (b := b) (p := p)
  have := g.1.1
  by_cases e : dE n b p = p
  · have g2 := g.2.2; rw [e, h] at g2; exact absurd g2 (by decide)
  · omega
/-- after a blank -/
theorem nE_s {p : Int} (h : spc n b p = true) : nE n b (p + 1) = nE n b p := runE_s _ (fun x hx => spc_n (by omega)) (fun x hx => spc_n (by omega)) (by omega) (fun x h0 h1 => by rw [show x = p by omega]; exact h)
theorem nE_0 {p : Int} (h : spc n b p = false) : nE n b p = p := by
  have g := nE_in (n := n) (b := b) (p := p)
  have := g.1.1
  by_cases e : p < nE n b p
  · have g2 := g.2.1 p (Int.le_refl _) e; rw [h] at g2; exact absurd g2 (by decide)
  · omega
theorem nE_n {p : Int} (h : p ≤ n) : nE n b p ≤ n := by
  have g := nE_in (n := n) (b := b) (p := p)
  omega
end
/-- letters packed -/
def pkN (c : Int → Int) (p : Int) : Nat → Int
  | 0 => 0
  | k + 1 => 27 * pkN c p k + (c (p + k) - 96)
/-- digits -/
def dcN (c : Int → Int) (p : Int) : Nat → Int
  | 0 => 0
  | k + 1 => 10 * dcN c p k + c (p + k) - 48
def pkL (l : List Int) : Int := l.foldl (fun a c => 27 * a + (c - 96)) 0
def kwl : List (List Int) := [[114, 111, 111, 109], [100, 111, 111, 114], [109, 97, 110], [103, 111, 101, 115], [109, 105, 114, 114, 111, 114], [108, 97, 116, 101], [98, 114, 101, 97, 107, 115], [115, 101, 101, 100], [105, 102], [116, 104, 101, 110], [101, 108, 115, 101], [109, 105, 110, 117, 116, 101], [104, 101, 114, 101], [114, 97, 110, 107], [110, 117, 109, 98, 101, 114], [119, 97, 121, 115], [119, 105, 116, 104]]
def kwp (w : Nat) : Int := pkL (kwl.getD w [])
/-- which word it is, packed -/
def wix (v : Int) : Option Nat := fnd (fun w => decide (kwp w = v)) 0 17
def sgn (c : Int) : Int := if c = 59 then 4 else if c = 61 then 5 else if c = 40 then 6 else if c = 41 then 7 else if c = 43 then 8 else if c = 45 then 9 else if c = 42 then 10 else if c = 47 then 15 else if c = 60 then 13 else 3
def tkE (n : Int) (b : Int → Int) (p : Int) : Int := if ltr n b p = true then lE n b p else if dgt n b p = true then dE n b p else p + 1
def tkP (n : Int) (b : Int → Int) (p : Int) : Int := if ltr n b p = true then pkN (ub n b) p (min 8 (lE n b p - p).toNat) else 0
def tkN (n : Int) (b : Int → Int) (p : Int) : Int := if dgt n b p = true then dcN (ub n b) p (min 4 (dE n b p - p).toNat) else 0
def tkK (n : Int) (b : Int → Int) (p : Int) : Int := if n ≤ p then 0 else if ltr n b p = true then (if lE n b p - p ≤ 7 then (match wix (tkP n b p) with | some w => 20 + (w : Int) | none => 1) else if lE n b p - p ≤ 8 then 1 else 3)
  else if dgt n b p = true then (if dE n b p - p ≤ 4 then 2 else 3) else sgn (ub n b p)
/-- where tokens begin -/
def tps (n : Int) (b : Int → Int) : Nat → Int
  | 0 => nE n b 0
  | i + 1 => if tps n b i < n then nE n b (tkE n b (tps n b i)) else tps n b i
theorem kwp_u : ∀ v w : Nat, v < 17 → w < 17 → kwp v = kwp w → v = w := by
  have : ∀ v ∈ List.range 17, ∀ w ∈ List.range 17, kwp v = kwp w → v = w := by decide
  exact fun v w h0 h1 => this v (List.mem_range.mpr h0) w (List.mem_range.mpr h1)
section
variable {n : Int} {b : Int → Int}
theorem ub_in (h : WfB n b) {p : Int} (h0 : 0 ≤ p) : 0 ≤ ub n b p ∧ ub n b p ≤ 255 := by
  unfold ub
  split
  · omega
  · have := h.2 p h0 (by omega)
    split <;> omega
theorem pkN_in {c : Int → Int} {p : Int} : ∀ k : Nat, (∀ i : Nat, i < k → 97 ≤ c (p + i) ∧ c (p + i) ≤ 122) → 0 ≤ pkN c p k ∧ pkN c p k < 27 ^ k := by
  intro k
  induction k with
  | zero => intro _; exact ⟨Int.le_refl 0, by show (0 : Int) < 1; decide⟩
  | succ k ih =>
    intro h
    have h1 := ih (fun i hi => h i (by omega))
    have h2 := h k (by omega)
    rw [pkN, Int.pow_succ]
    omega
theorem dcN_in {c : Int → Int} {p : Int} : ∀ k : Nat, (∀ i : Nat, i < k → 48 ≤ c (p + i) ∧ c (p + i) ≤ 57) → 0 ≤ dcN c p k ∧ dcN c p k < 10 ^ k := by
  intro k
  induction k with
  | zero => intro _; exact ⟨Int.le_refl 0, by show (0 : Int) < 1; decide⟩
  | succ k ih =>
    intro h
    have h1 := ih (fun i hi => h i (by omega))
    have h2 := h k (by omega)
    rw [dcN, Int.pow_succ]
    omega
theorem tkE_f {p : Int} : p < tkE n b p := by
  unfold tkE
  split
  · next h => exact lE_f h
  · split
    · next h => exact dE_f h
    · omega
theorem tkE_n {p : Int} (h : p < n) : tkE n b p ≤ n := by
  unfold tkE
  split
  · have := lE_in (n := n) (b := b) (p := p); omega
  · split
    · have := dE_in (n := n) (b := b) (p := p); omega
    · omega
theorem tps_n (hn : 0 ≤ n) : ∀ i : Nat, 0 ≤ tps n b i ∧ tps n b i ≤ n := by
  intro i
  induction i with
  | zero => exact ⟨(nE_in (n := n) (b := b) (p := 0)).1.1, nE_n hn⟩
  | succ i ih =>
    rw [tps]
    split
    · next h =>
      have h1 := tkE_f (n := n) (b := b) (p := tps n b i)
      have h2 := tkE_n (n := n) (b := b) h
      have h3 := (nE_in (n := n) (b := b) (p := tkE n b (tps n b i))).1.1
      exact ⟨by omega, nE_n h2⟩
    · exact ih
theorem tps_lt {i : Nat} (h : tps n b i < n) : tps n b i < tps n b (i + 1) := by
  rw [tps, if_pos h]
  have h1 := tkE_f (n := n) (b := b) (p := tps n b i)
  have h3 := (nE_in (n := n) (b := b) (p := tkE n b (tps n b i))).1.1
  omega
theorem tps_mono {i j : Nat} (hij : i < j) (h : tps n b (j - 1) < n) : tps n b i < tps n b j := by
  obtain ⟨k, rfl⟩ : ∃ k, j = i + 1 + k := ⟨j - i - 1, by omega⟩
  clear hij
  induction k with
  | zero => exact tps_lt h
  | succ k ih =>
    have e : i + 1 + (k + 1) - 1 = i + 1 + k := by omega
    rw [e] at h
    have h2 := tps_lt h
    have h3 : tps n b (i + 1 + k - 1) < n := by
      rw [show i + 1 + k - 1 = i + k by omega]
      by_cases c : tps n b (i + k) < n
      · exact c
      · have : tps n b (i + 1 + k) = tps n b (i + k) := by
          rw [show i + 1 + k = i + k + 1 by omega, tps, if_neg c]
        omega
    have := ih h3
    show _ < tps n b (i + 1 + k + 1)
    omega
theorem anI_255 : ∀ m : Nat, m < 256 → anI ((m : Int) - 128) 255 = if (m : Int) - 128 < 0 then (m : Int) - 128 + 256 else (m : Int) - 128 := by decide +kernel
theorem anI_b {v : Int} (h0 : -128 ≤ v) (h1 : v ≤ 127) : anI v 255 = if v < 0 then v + 256 else v := by
  have := anI_255 (v + 128).toNat (by omega)
  rw [show (((v + 128).toNat : Nat) : Int) - 128 = v by omega] at this
  exact this
end

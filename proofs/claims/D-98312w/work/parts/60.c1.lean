set_option maxRecDepth 100000
/-! ===== PURE: cells of the abstract heap by their shape and their numbers ===== -/
def shp (σ : Hp) (a : Nat) : Option (Nat × Int × (Int → Option Nat)) := (σ.1 a).map fun c => (c.1, c.2.1, c.2.2.2)
def ci (σ : Hp) (a : Nat) (i : Int) : Int := match σ.1 a with
  | some c => c.2.2.1 i
  | none => 0
theorem shp_some {σ : Hp} {a t : Nat} {n : Int} {g : Int → Option Nat} (h : shp σ a = some (t, n, g)) : σ.1 a = some (t, n, ci σ a, g) := by
  unfold shp at h
  unfold ci
  cases hc : σ.1 a with
  | none => rw [hc] at h; cases h
  | some c =>
    rw [hc] at h
    obtain ⟨c1, c2, c3, c4⟩ := c
    cases h
    rfl
section
variable {σ : Hp} {a t : Nat} {n : Int} {g : Int → Option Nat}
theorem cel_s (h : shp σ a = some (t, n, g)) : cel σ t (some a) = some (a, (t, n, ci σ a, g)) := cel_at (shp_some h) rfl
theorem gI_s (h : shp σ a = some (t, n, g)) (k : Int) : gI σ t (some a) k = some (ci σ a k) := by unfold gI; rw [cel_s h]; rfl
theorem gR_s (h : shp σ a = some (t, n, g)) (k : Int) : gR σ t (some a) k = some (g k) := by unfold gR; rw [cel_s h]; rfl
theorem rcv_s (h : shp σ a = some (t, n, g)) : rcv σ t (some a) = some a := by unfold rcv; rw [cel_s h]; rfl
theorem aL_s (h : shp σ a = some (t, n, g)) : aL σ t (some a) = some n := by unfold aL; rw [cel_s h]; rfl
theorem aI_s (h : shp σ a = some (t, n, g)) {i : Int} (h0 : 0 ≤ i) (h1 : i < n) (h2 : i ≤ 2147483647) : aI σ t (some a) i = some (ci σ a i) := by
  unfold aI
  rw [cel_s h, obS, nrm_i (by omega) h2]
  exact if_pos ⟨h0, h1⟩
theorem aR_s (h : shp σ a = some (t, n, g)) {i : Int} (h0 : 0 ≤ i) (h1 : i < n) (h2 : i ≤ 2147483647) : aR σ t (some a) i = some (g i) := by
  unfold aR
  rw [cel_s h, obS, nrm_i (by omega) h2]
  exact if_pos ⟨h0, h1⟩
/-- a number is written -/
def wr (σ : Hp) (a : Nat) (i v : Int) : Hp := (fun b => if b = a then (σ.1 a).map fun c => (c.1, c.2.1, fu c.2.2.1 i v, c.2.2.2) else σ.1 b, σ.2)
theorem wr_of (h : shp σ a = some (t, n, g)) (i v : Int) : upc σ a (t, n, fu (ci σ a) i v, g) = wr σ a i v := by
  unfold upc wr
  rw [shp_some h]
  rfl
theorem wr_shp (σ : Hp) (a : Nat) (i v : Int) (b : Nat) : shp (wr σ a i v) b = shp σ b := by
  unfold shp wr
  by_cases e : b = a
  · subst e
    simp only [if_pos]
    cases σ.1 b <;> rfl
  · simp only [if_neg e]
theorem wr_ci (σ : Hp) {a : Nat} (i v : Int) (h : shp σ a = some (t, n, g)) : ci (wr σ a i v) a = fu (ci σ a) i v := by
  have h1 := shp_some h
  funext j
  show (match (if a = a then (σ.1 a).map fun c => ((c.1, c.2.1, fu c.2.2.1 i v, c.2.2.2) : Ce) else σ.1 a) with | some c => c.2.2.1 j | none => 0) = _
  rw [if_pos rfl, h1]
  rfl
theorem wr_ne (σ : Hp) {a b : Nat} (i v : Int) (h : b ≠ a) : (wr σ a i v).1 b = σ.1 b := by
  show (if b = a then _ else σ.1 b) = _
  rw [if_neg h]
theorem wr_cne (σ : Hp) {a b : Nat} (i v : Int) (h : b ≠ a) : ci (wr σ a i v) b = ci σ b := by
  funext j
  unfold ci
  rw [wr_ne σ i v h]
theorem pI_s (h : shp σ a = some (t, n, g)) (k v : Int) : pI σ t (some a) k v = some (wr σ a k v) := by
  unfold pI
  rw [cel_s h, obS, ← wr_of h]
theorem sI_s (h : shp σ a = some (t, n, g)) {i : Int} (v : Int) (h0 : 0 ≤ i) (h1 : i < n) (h2 : i ≤ 2147483647) : sI σ t (some a) i v = some (wr σ a i v) := by
  unfold sI
  rw [cel_s h, obS, nrm_i (by omega) h2, ← wr_of h]
  exact if_pos ⟨h0, h1⟩
end
/-- numbers of cells of S alone have changed -/
def chgH (S : Nat → Prop) (σ σ' : Hp) : Prop := σ'.2 = σ.2 ∧ (∀ a : Nat, shp σ' a = shp σ a) ∧ ∀ a : Nat, ¬ S a → σ'.1 a = σ.1 a
theorem chgH.rf (S : Nat → Prop) (σ : Hp) : chgH S σ σ := ⟨rfl, fun _ => rfl, fun _ _ => rfl⟩
theorem chgH.tr {S : Nat → Prop} {a b c : Hp} (h : chgH S a b) (g : chgH S b c) : chgH S a c := ⟨g.1.trans h.1, fun x => (g.2.1 x).trans (h.2.1 x), fun x hx => (g.2.2 x hx).trans (h.2.2 x hx)⟩
theorem chgH.up {S T : Nat → Prop} {a b : Hp} (h : chgH S a b) (hS : ∀ x, S x → T x) : chgH T a b := ⟨h.1, h.2.1, fun x hx => h.2.2 x fun q => hx (hS x q)⟩
theorem chgH.wr {S : Nat → Prop} {σ τ : Hp} (h : chgH S σ τ) {a : Nat} (ha : S a) (i v : Int) : chgH S σ (wr τ a i v) :=
  ⟨h.1, fun x => (wr_shp τ a i v x).trans (h.2.1 x), fun x hx => (wr_ne τ i v (fun e => hx (by rw [e]; exact ha))).trans (h.2.2 x hx)⟩
theorem chgH.num {S : Nat → Prop} {σ τ : Hp} (h : chgH S σ τ) {a : Nat} (ha : ¬ S a) : ci τ a = ci σ a := by
  funext j
  unfold ci
  rw [h.2.2 a ha]
/-! ===== lists ===== -/
def LstAt (σ : Hp) (a : Nat) (n : Int) (el : Int → Nat) : Prop := (0 ≤ n ∧ n ≤ 10) ∧ ∃ gl : Int → Option Nat, shp σ a = some (18, 3, gl) ∧ ci σ a 2 = n ∧ (n = 0 ∨ ∃ (e : Nat) (m : Int) (ge : Int → Option Nat), gl 1 = some e ∧ shp σ e = some (109, m, ge) ∧ n ≤ m ∧ ∀ i : Int, 0 ≤ i → i < n → ge i = some (el i))
theorem l_size {σ : Hp} {a : Nat} {n : Int} {el : Int → Nat} (h : LstAt σ a n el) : f_J5_size σ a = some (n, σ) := by
  obtain ⟨h0, gl, h1, h2, -⟩ := h
  unfold f_J5_size
  rw [gI_s h1, obS, h2]
theorem l_rcv {σ : Hp} {a : Nat} {n : Int} {el : Int → Nat} (h : LstAt σ a n el) : rcv σ 18 (some a) = some a := by
  obtain ⟨h0, gl, h1, h2, -⟩ := h
  exact rcv_s h1
theorem l_get {σ : Hp} {a : Nat} {n : Int} {el : Int → Nat} (h : LstAt σ a n el) {i : Int} (i0 : 0 ≤ i) (i1 : i < n) : f_J5_get σ a i = some (some (el i), σ) := by
  have hr := l_rcv h
  obtain ⟨h0, gl, h1, h2, h3⟩ := h
  rcases h3 with h3 | ⟨e, m, ge, g1, g2, g3, g4⟩
  · omega
  · unfold f_J5_get f_J6_checkIndex f_J7_checkIndex f_J5_elementData
    rw [gI_s h1, obS, h2, jnS, nrm_i (z := i) (by omega) (by omega), nrm_i (z := n) (by omega) (by omega), if_neg (show ¬ i < 0 by omega), if_pos i1, bnS, bnS, hr, obS, gR_s h1, obS, g1, aR_s g2 i0 (by omega) (by omega), obS, g4 i i0 i1, bnS]
/-! ===== a court on the heap ===== -/
/-- the shape of a court at a -/
def Csh (σ : Hp) (a : Nat) : Prop :=
  (∃ g : Int → Option Nat, shp σ a = some (5, 11, g) ∧ g 0 = some (a + 1) ∧ g 1 = some (a + 8) ∧ g 2 = some (a + 15) ∧ g 3 = some (a + 24) ∧ g 4 = some (a + 33) ∧ g 5 = some (a + 42) ∧ g 6 = some (a + 43) ∧ g 7 = some (a + 44) ∧ g 8 = some (a + 45)) ∧
  ((∃ g : Int → Option Nat, shp σ (a + 1) = some (105, 6, g) ∧ ∀ i : Int, 0 ≤ i → i < 6 → g i = some (a + 2 + i.toNat)) ∧ ∀ i : Int, 0 ≤ i → i < 6 → ∃ g : Int → Option Nat, shp σ (a + 2 + i.toNat) = some (101, 300, g)) ∧
  ((∃ g : Int → Option Nat, shp σ (a + 8) = some (105, 6, g) ∧ ∀ i : Int, 0 ≤ i → i < 6 → g i = some (a + 9 + i.toNat)) ∧ ∀ i : Int, 0 ≤ i → i < 6 → ∃ g : Int → Option Nat, shp σ (a + 9 + i.toNat) = some (101, 300, g)) ∧
  ((∃ g : Int → Option Nat, shp σ (a + 15) = some (105, 8, g) ∧ ∀ i : Int, 0 ≤ i → i < 8 → g i = some (a + 16 + i.toNat)) ∧ ∀ i : Int, 0 ≤ i → i < 8 → ∃ g : Int → Option Nat, shp σ (a + 16 + i.toNat) = some (101, 300, g)) ∧
  ((∃ g : Int → Option Nat, shp σ (a + 24) = some (106, 8, g) ∧ ∀ i : Int, 0 ≤ i → i < 8 → g i = some (a + 25 + i.toNat)) ∧ ∀ i : Int, 0 ≤ i → i < 8 → ∃ g : Int → Option Nat, shp σ (a + 25 + i.toNat) = some (102, 300, g)) ∧
  ((∃ g : Int → Option Nat, shp σ (a + 33) = some (107, 8, g) ∧ ∀ i : Int, 0 ≤ i → i < 8 → g i = some (a + 34 + i.toNat)) ∧ ∀ i : Int, 0 ≤ i → i < 8 → ∃ g : Int → Option Nat, shp σ (a + 34 + i.toNat) = some (103, 300, g)) ∧
  (∃ g : Int → Option Nat, shp σ (a + 42) = some (100, 8, g)) ∧ (∃ g : Int → Option Nat, shp σ (a + 43) = some (100, 8, g)) ∧ (∃ g : Int → Option Nat, shp σ (a + 44) = some (100, 6, g)) ∧
  (∃ g : Int → Option Nat, shp σ (a + 45) = some (6, 2, g) ∧ g 0 = some (a + 46)) ∧ ∃ g : Int → Option Nat, shp σ (a + 46) = some (100, 6, g)
theorem Csh.same {σ τ : Hp} {a : Nat} (h : Csh σ a) (e : ∀ x : Nat, shp τ x = shp σ x) : Csh τ a := by
  unfold Csh
  simp only [e]
  exact h
section
variable {σ : Hp} {a : Nat}
theorem c_o (h : Csh σ a) : rcv σ 5 (some a) = some a := by obtain ⟨⟨g, h1, -⟩, -⟩ := h; exact rcv_s h1
theorem c_g (h : Csh σ a) (k : Int) : gI σ 5 (some a) k = some (ci σ a k) := by obtain ⟨⟨g, h1, -⟩, -⟩ := h; exact gI_s h1 k
theorem c_p (h : Csh σ a) (k v : Int) : pI σ 5 (some a) k v = some (wr σ a k v) := by obtain ⟨⟨g, h1, -⟩, -⟩ := h; exact pI_s h1 k v
theorem c_g0 (h : Csh σ a) : gR σ 5 (some a) 0 = some (some (a + 1)) := by obtain ⟨⟨g, h1, e, -⟩, -⟩ := h; rw [gR_s h1, e]
theorem c_g1 (h : Csh σ a) : gR σ 5 (some a) 1 = some (some (a + 8)) := by obtain ⟨⟨g, h1, -, e, -⟩, -⟩ := h; rw [gR_s h1, e]
theorem c_g2 (h : Csh σ a) : gR σ 5 (some a) 2 = some (some (a + 15)) := by obtain ⟨⟨g, h1, -, -, e, -⟩, -⟩ := h; rw [gR_s h1, e]
theorem c_g3 (h : Csh σ a) : gR σ 5 (some a) 3 = some (some (a + 24)) := by obtain ⟨⟨g, h1, -, -, -, e, -⟩, -⟩ := h; rw [gR_s h1, e]
theorem c_g4 (h : Csh σ a) : gR σ 5 (some a) 4 = some (some (a + 33)) := by obtain ⟨⟨g, h1, -, -, -, -, e, -⟩, -⟩ := h; rw [gR_s h1, e]
theorem c_g5 (h : Csh σ a) : gR σ 5 (some a) 5 = some (some (a + 42)) := by obtain ⟨⟨g, h1, -, -, -, -, -, e, -⟩, -⟩ := h; rw [gR_s h1, e]
theorem c_g6 (h : Csh σ a) : gR σ 5 (some a) 6 = some (some (a + 43)) := by obtain ⟨⟨g, h1, -, -, -, -, -, -, e, -⟩, -⟩ := h; rw [gR_s h1, e]
theorem c_g7 (h : Csh σ a) : gR σ 5 (some a) 7 = some (some (a + 44)) := by obtain ⟨⟨g, h1, -, -, -, -, -, -, -, e, -⟩, -⟩ := h; rw [gR_s h1, e]
theorem c_g8 (h : Csh σ a) : gR σ 5 (some a) 8 = some (some (a + 45)) := by obtain ⟨⟨g, h1, -, -, -, -, -, -, -, -, e⟩, -⟩ := h; rw [gR_s h1, e]
theorem c_r0 (h : Csh σ a) {m : Int} (h0 : 0 ≤ m) (h1 : m < 6) : aR σ 105 (some (a + 1)) m = some (some (a + 2 + m.toNat)) := by obtain ⟨-, ⟨⟨g, e, f⟩, -⟩, -⟩ := h; rw [aR_s e h0 h1 (by omega), f m h0 h1]
theorem c_r1 (h : Csh σ a) {m : Int} (h0 : 0 ≤ m) (h1 : m < 6) : aR σ 105 (some (a + 8)) m = some (some (a + 9 + m.toNat)) := by obtain ⟨-, -, ⟨⟨g, e, f⟩, -⟩, -⟩ := h; rw [aR_s e h0 h1 (by omega), f m h0 h1]
theorem c_r2 (h : Csh σ a) {m : Int} (h0 : 0 ≤ m) (h1 : m < 8) : aR σ 105 (some (a + 15)) m = some (some (a + 16 + m.toNat)) := by obtain ⟨-, -, -, ⟨⟨g, e, f⟩, -⟩, -⟩ := h; rw [aR_s e h0 h1 (by omega), f m h0 h1]
theorem c_r3 (h : Csh σ a) {m : Int} (h0 : 0 ≤ m) (h1 : m < 8) : aR σ 106 (some (a + 24)) m = some (some (a + 25 + m.toNat)) := by obtain ⟨-, -, -, -, ⟨⟨g, e, f⟩, -⟩, -⟩ := h; rw [aR_s e h0 h1 (by omega), f m h0 h1]
theorem c_r4 (h : Csh σ a) {m : Int} (h0 : 0 ≤ m) (h1 : m < 8) : aR σ 107 (some (a + 33)) m = some (some (a + 34 + m.toNat)) := by obtain ⟨-, -, -, -, -, ⟨⟨g, e, f⟩, -⟩, -⟩ := h; rw [aR_s e h0 h1 (by omega), f m h0 h1]
theorem c_a0 (h : Csh σ a) {m t : Int} (h0 : 0 ≤ m) (h1 : m < 6) (t0 : 0 ≤ t) (t1 : t < 300) : aI σ 101 (some (a + 2 + m.toNat)) t = some (ci σ (a + 2 + m.toNat) t) := by obtain ⟨-, ⟨-, f⟩, -⟩ := h; obtain ⟨g, e⟩ := f m h0 h1; exact aI_s e t0 t1 (by omega)
theorem c_a1 (h : Csh σ a) {m t : Int} (h0 : 0 ≤ m) (h1 : m < 6) (t0 : 0 ≤ t) (t1 : t < 300) : aI σ 101 (some (a + 9 + m.toNat)) t = some (ci σ (a + 9 + m.toNat) t) := by obtain ⟨-, -, ⟨-, f⟩, -⟩ := h; obtain ⟨g, e⟩ := f m h0 h1; exact aI_s e t0 t1 (by omega)
theorem c_a2 (h : Csh σ a) {m t : Int} (h0 : 0 ≤ m) (h1 : m < 8) (t0 : 0 ≤ t) (t1 : t < 300) : aI σ 101 (some (a + 16 + m.toNat)) t = some (ci σ (a + 16 + m.toNat) t) := by obtain ⟨-, -, -, ⟨-, f⟩, -⟩ := h; obtain ⟨g, e⟩ := f m h0 h1; exact aI_s e t0 t1 (by omega)
theorem c_a3 (h : Csh σ a) {m t : Int} (h0 : 0 ≤ m) (h1 : m < 8) (t0 : 0 ≤ t) (t1 : t < 300) : aI σ 102 (some (a + 25 + m.toNat)) t = some (ci σ (a + 25 + m.toNat) t) := by obtain ⟨-, -, -, -, ⟨-, f⟩, -⟩ := h; obtain ⟨g, e⟩ := f m h0 h1; exact aI_s e t0 t1 (by omega)
theorem c_a4 (h : Csh σ a) {m t : Int} (h0 : 0 ≤ m) (h1 : m < 8) (t0 : 0 ≤ t) (t1 : t < 300) : aI σ 103 (some (a + 34 + m.toNat)) t = some (ci σ (a + 34 + m.toNat) t) := by obtain ⟨-, -, -, -, -, ⟨-, f⟩, -⟩ := h; obtain ⟨g, e⟩ := f m h0 h1; exact aI_s e t0 t1 (by omega)
theorem c_s0 (h : Csh σ a) {m t : Int} (v : Int) (h0 : 0 ≤ m) (h1 : m < 6) (t0 : 0 ≤ t) (t1 : t < 300) : sI σ 101 (some (a + 2 + m.toNat)) t v = some (wr σ (a + 2 + m.toNat) t v) := by obtain ⟨-, ⟨-, f⟩, -⟩ := h; obtain ⟨g, e⟩ := f m h0 h1; exact sI_s e v t0 t1 (by omega)
theorem c_s1 (h : Csh σ a) {m t : Int} (v : Int) (h0 : 0 ≤ m) (h1 : m < 6) (t0 : 0 ≤ t) (t1 : t < 300) : sI σ 101 (some (a + 9 + m.toNat)) t v = some (wr σ (a + 9 + m.toNat) t v) := by obtain ⟨-, -, ⟨-, f⟩, -⟩ := h; obtain ⟨g, e⟩ := f m h0 h1; exact sI_s e v t0 t1 (by omega)
theorem c_s2 (h : Csh σ a) {m t : Int} (v : Int) (h0 : 0 ≤ m) (h1 : m < 8) (t0 : 0 ≤ t) (t1 : t < 300) : sI σ 101 (some (a + 16 + m.toNat)) t v = some (wr σ (a + 16 + m.toNat) t v) := by obtain ⟨-, -, -, ⟨-, f⟩, -⟩ := h; obtain ⟨g, e⟩ := f m h0 h1; exact sI_s e v t0 t1 (by omega)
theorem c_s3 (h : Csh σ a) {m t : Int} (v : Int) (h0 : 0 ≤ m) (h1 : m < 8) (t0 : 0 ≤ t) (t1 : t < 300) : sI σ 102 (some (a + 25 + m.toNat)) t v = some (wr σ (a + 25 + m.toNat) t v) := by obtain ⟨-, -, -, -, ⟨-, f⟩, -⟩ := h; obtain ⟨g, e⟩ := f m h0 h1; exact sI_s e v t0 t1 (by omega)
theorem c_s4 (h : Csh σ a) {m t : Int} (v : Int) (h0 : 0 ≤ m) (h1 : m < 8) (t0 : 0 ≤ t) (t1 : t < 300) : sI σ 103 (some (a + 34 + m.toNat)) t v = some (wr σ (a + 34 + m.toNat) t v) := by obtain ⟨-, -, -, -, -, ⟨-, f⟩, -⟩ := h; obtain ⟨g, e⟩ := f m h0 h1; exact sI_s e v t0 t1 (by omega)
theorem c_b (h : Csh σ a) {m : Int} (h0 : 0 ≤ m) (h1 : m < 8) : aI σ 100 (some (a + 42)) m = some (ci σ (a + 42) m) := by obtain ⟨-, -, -, -, -, -, ⟨g, e⟩, -⟩ := h; exact aI_s e h0 h1 (by omega)
theorem c_f (h : Csh σ a) {m : Int} (h0 : 0 ≤ m) (h1 : m < 8) : aI σ 100 (some (a + 43)) m = some (ci σ (a + 43) m) := by obtain ⟨-, -, -, -, -, -, -, ⟨g, e⟩, -⟩ := h; exact aI_s e h0 h1 (by omega)
theorem c_to (h : Csh σ a) {m : Int} (h0 : 0 ≤ m) (h1 : m < 6) : aI σ 100 (some (a + 44)) m = some (ci σ (a + 44) m) := by obtain ⟨-, -, -, -, -, -, -, -, ⟨g, e⟩, -⟩ := h; exact aI_s e h0 h1 (by omega)
theorem c_sb (h : Csh σ a) {m : Int} (v : Int) (h0 : 0 ≤ m) (h1 : m < 8) : sI σ 100 (some (a + 42)) m v = some (wr σ (a + 42) m v) := by obtain ⟨-, -, -, -, -, -, ⟨g, e⟩, -⟩ := h; exact sI_s e v h0 h1 (by omega)
theorem c_sf (h : Csh σ a) {m : Int} (v : Int) (h0 : 0 ≤ m) (h1 : m < 8) : sI σ 100 (some (a + 43)) m v = some (wr σ (a + 43) m v) := by obtain ⟨-, -, -, -, -, -, -, ⟨g, e⟩, -⟩ := h; exact sI_s e v h0 h1 (by omega)
theorem c_sto (h : Csh σ a) {m : Int} (v : Int) (h0 : 0 ≤ m) (h1 : m < 6) : sI σ 100 (some (a + 44)) m v = some (wr σ (a + 44) m v) := by obtain ⟨-, -, -, -, -, -, -, -, ⟨g, e⟩, -⟩ := h; exact sI_s e v h0 h1 (by omega)
theorem c_as (h : Csh σ a) : gR σ 6 (some (a + 45)) 0 = some (some (a + 46)) := by obtain ⟨-, -, -, -, -, -, -, -, -, ⟨g, e, f⟩, -⟩ := h; rw [gR_s e, f]
theorem c_sv (h : Csh σ a) {m : Int} (v : Int) (h0 : 0 ≤ m) (h1 : m < 6) : sI σ 100 (some (a + 46)) m v = some (wr σ (a + 46) m v) := by obtain ⟨-, -, -, -, -, -, -, -, -, -, ⟨g, e⟩⟩ := h; exact sI_s e v h0 h1 (by omega)
/-- what a court on the heap holds -/
def CatQ (q : Int) (σ : Hp) (a : Nat) (X : Txt) (K : Crt) : Prop := (ci σ a 9 = kMi K ∧ ci σ a 10 = kSd K) ∧
  (∀ m t : Int, 0 ≤ m → m < xM X → 0 ≤ t → t ≤ kMi K → ci σ (a + 2 + m.toNat) t = kW K m t ∧ ci σ (a + 9 + m.toNat) t = kR K m t) ∧
  (∀ k t : Int, 0 ≤ k → k < xK X → 0 ≤ t → t ≤ kMi K → ci σ (a + 16 + k.toNat) t = kH K k t ∧ ci σ (a + 25 + k.toNat) t = kU K k t ∧ (t ≤ q → ci σ (a + 34 + k.toNat) t = kL K k t)) ∧
  ∀ k : Int, 0 ≤ k → k < xK X → ci σ (a + 42) k = kB K k ∧ ci σ (a + 43) k = kF K k
abbrev Cat (σ : Hp) (a : Nat) (X : Txt) (K : Crt) : Prop := CatQ (kMi K) σ a X K
variable {X : Txt} {K : Crt}
theorem h_isBroken (hc : Csh σ a) {q : Int} (hK : CatQ q σ a X K) (hX : WfX X) (hW : WfQ q X K) {k t : Int} (h0 : 0 ≤ k) (h1 : k < xK X) (t0 : 0 ≤ t) (t1 : t ≤ 299) : f_X5_isBroken σ a k t = some (if kB K k ≤ t then 1 else 0, σ) := by
  have a4 := hX.2.2.2.1
  have a2 := hW.1
  have hb := (hW.2.2.2 k h0 h1).1
  unfold f_X5_isBroken
  rw [c_g5 hc, obS, c_b hc h0 (by omega), obS, (hK.2.2.2 k h0 h1).1, nrm_i (z := t) (by omega) (by omega), nrm_i (z := kB K k) (by omega) (by omega)]
  by_cases e : t < kB K k
  · rw [if_pos e, if_neg (by omega)]
  · rw [if_neg e, if_pos (by omega)]
theorem h_shows (hc : Csh σ a) (hK : Cat σ a X K) (hX : WfX X) (hW : WfK X K) {k t : Int} (h0 : 0 ≤ k) (h1 : k < xK X) (h2 : 0 ≤ t) (h3 : t ≤ kMi K) : f_X5_shows σ a k t = some (shw K k t, σ) := by
  have a4 := hX.2.2.2.1
  have a2 := hW.1
  have b1 := hK.2.2.2 k h0 h1
  have b2 := hW.2.2.2 k h0 h1
  have b3 := hK.2.2.1 k t h0 h1 h2 h3
  have b4 := hW.2.2.1 k t h0 h1 h2 h3
  have b5 := b4.2.2 h3
  have key : ∀ y : Int, (y = -2 ∨ (-300 ≤ y ∧ y ≤ kMi K)) → kU K k t = 0 → (if nrm y < 0 then some ((-2 : Int), σ) else (gR σ 5 (some a) 3).bind fun v8 => (aR σ 106 v8 k).bind fun v9 => (aI σ 102 v9 y).bind fun v10 => if nrm v10 = 0 then some (nrm y, σ) else some (-2, σ)) = some (if kU K k t = 0 ∧ 0 ≤ y ∧ kU K k y = 0 then y else -2, σ) := by
    intro y hy hu
    rw [nrm_i (z := y) (by omega) (by omega)]
    by_cases hy0 : y < 0
    · rw [if_pos hy0, if_neg (by omega)]
    · rw [if_neg hy0, c_g3 hc, obS, c_r3 hc h0 (by omega), obS, c_a3 hc h0 (by omega) (by omega) (by omega), obS, (hK.2.2.1 k y h0 h1 (by omega) (by omega)).2.1]
      rcases (hW.2.2.1 k y h0 h1 (by omega) (by omega)).2.1 with e | e
      · rw [e, if_pos (by decide), if_pos (by omega)]
      · rw [e, if_neg (by decide), if_neg (by omega)]
  unfold f_X5_shows shw
  rw [c_g3 hc, obS, c_r3 hc h0 (by omega), obS, c_a3 hc h0 (by omega) h2 (by omega), obS, b3.2.1]
  rcases b4.2.1 with e | e
  · rw [e, if_pos (by decide), c_o hc, obS, h_isBroken hc hK hX hW h0 h1 h2 (by omega), bnS, jnS]
    have hk := key (sh0 K k t)
    rw [e] at hk
    by_cases hb : kB K k ≤ t
    · have hu : sh0 K k t = kF K k := by unfold sh0; rw [if_pos hb]
      rw [if_pos hb, if_neg (by decide), c_g6 hc, obS, c_f hc h0 (by omega), obS, b1.2, hu]
      rw [hu] at hk
      exact hk (by omega) rfl
    · have hu : sh0 K k t = t - kL K k t := by unfold sh0; rw [if_neg hb]
      rw [if_neg hb, if_pos (by decide), c_g4 hc, obS, c_r4 hc h0 (by omega), obS, c_a4 hc h0 (by omega) h2 (by omega), obS, b3.2.2 h3, hu]
      rw [hu] at hk
      exact hk (by omega) rfl
  · rw [e, if_neg (by decide), if_neg (by omega)]
end

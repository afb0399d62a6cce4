set_option maxRecDepth 100000
/-! ===== PURE: the whole object on the heap ===== -/
/-- cells that stay, whatever the text -/
def stS (o x : Nat) : Prop := o ≤ x ∧ x < o + 1217 ∧ (x < o + 10 ∨ o + 14 ≤ x)
def Osh (σ : Hp) (o r : Nat) : Prop := (∃ g : Int → Option Nat, shp σ o = some (0, 23, g) ∧ g 3 = some r ∧ g 0 = some (o + 1) ∧ g 1 = some (o + 2) ∧ g 2 = some (o + 9) ∧ g 7 = some (o + 14) ∧ g 8 = some (o + 61) ∧ g 9 = some (o + 108) ∧ g 10 = some (o + 109) ∧ g 11 = some (o + 251) ∧ g 12 = some (o + 252) ∧ g 13 = some (o + 253) ∧ g 14 = some (o + 254) ∧ g 15 = some (o + 263) ∧ g 17 = some (o + 272) ∧ g 19 = some (o + 273) ∧ g 20 = some (o + 274) ∧ g 21 = some (o + 275) ∧ g 22 = some (o + 276)) ∧
  ((∃ g : Int → Option Nat, shp σ (o + 1) = some (1, 8, g)) ∧ (∃ g : Int → Option Nat, shp σ (o + 4) = some (101, 2000, g)) ∧ (∃ g : Int → Option Nat, shp σ (o + 5) = some (101, 2001, g)) ∧ (∃ g : Int → Option Nat, shp σ (o + 6) = some (103, 2001, g)) ∧ (∃ g : Int → Option Nat, shp σ (o + 7) = some (103, 2001, g)) ∧ (∃ g : Int → Option Nat, shp σ (o + 8) = some (103, 2001, g)) ∧ (∃ g : Int → Option Nat, shp σ (o + 251) = some (102, 3, g)) ∧ (∃ g : Int → Option Nat, shp σ (o + 252) = some (7, 2, g)) ∧ (∃ g : Int → Option Nat, shp σ (o + 253) = some (100, 300, g)) ∧ (∃ g : Int → Option Nat, shp σ (o + 272) = some (100, 8, g)) ∧ (∃ g : Int → Option Nat, shp σ (o + 273) = some (100, 20, g)) ∧ (∃ g : Int → Option Nat, shp σ (o + 274) = some (100, 20, g)) ∧ (∃ g : Int → Option Nat, shp σ (o + 275) = some (100, 20, g)) ∧ (∃ g : Int → Option Nat, shp σ (o + 276) = some (102, 20, g))) ∧
  (∃ g : Int → Option Nat, shp σ (o + 2) = some (2, 8, g) ∧ g 0 = some (o + 3) ∧ g 1 = some (o + 4) ∧ g 3 = some (o + 5) ∧ g 4 = some (o + 6) ∧ g 5 = some (o + 7) ∧ g 6 = some (o + 8)) ∧
  (∃ g : Int → Option Nat, shp σ (o + 3) = some (108, 17, g) ∧ ∀ i : Nat, i < 17 → g i = some (σ.2.2.2 i)) ∧
  (∃ g : Int → Option Nat, shp σ (o + 9) = some (3, 7, g) ∧ g 0 = some (o + 2) ∧ g 1 = some (o + 1)) ∧
  (∃ g : Int → Option Nat, shp σ (o + 108) = some (110, 20, g) ∧ ∀ i : Int, 0 ≤ i → i < 20 → g i = some (o + 277 + 47 * i.toNat)) ∧
  (∃ g : Int → Option Nat, shp σ (o + 109) = some (110, 3, g) ∧ ∀ i : Int, 0 ≤ i → i < 3 → g i = some (o + 110 + 47 * i.toNat)) ∧
  ((∃ g : Int → Option Nat, shp σ (o + 254) = some (106, 8, g) ∧ ∀ i : Int, 0 ≤ i → i < 8 → g i = some (o + 255 + i.toNat)) ∧ ∀ i : Int, 0 ≤ i → i < 8 → ∃ g : Int → Option Nat, shp σ (o + 255 + i.toNat) = some (102, 300, g)) ∧
  ((∃ g : Int → Option Nat, shp σ (o + 263) = some (106, 8, g) ∧ ∀ i : Int, 0 ≤ i → i < 8 → g i = some (o + 264 + i.toNat)) ∧ ∀ i : Int, 0 ≤ i → i < 8 → ∃ g : Int → Option Nat, shp σ (o + 264 + i.toNat) = some (102, 300, g)) ∧
  (Csh σ (o + 14) ∧ Csh σ (o + 61)) ∧ (∀ i : Int, 0 ≤ i → i < 3 → Csh σ (o + 110 + 47 * i.toNat)) ∧ ∀ i : Int, 0 ≤ i → i < 20 → Csh σ (o + 277 + 47 * i.toNat)
theorem Osh.same {σ τ : Hp} {o r : Nat} (h : Osh σ o r) (e : ∀ x : Nat, shp τ x = shp σ x) (e2 : τ.2.2.2 = σ.2.2.2) : Osh τ o r := by
  obtain ⟨h1, h2, h3, h4, h5, h6, h7, h8, h9, ⟨h10, h11⟩, h12, h13⟩ := h
  unfold Osh
  simp only [e, e2]
  exact ⟨h1, h2, h3, h4, h5, h6, h7, h8, h9, ⟨h10.same e, h11.same e⟩, fun i a b => (h12 i a b).same e, fun i a b => (h13 i a b).same e⟩
theorem Osh.chg {σ τ : Hp} {o r : Nat} (h : Osh σ o r) {S : Nat → Prop} (e : chgH S σ τ) : Osh τ o r := h.same e.2.1 (by rw [e.1])
section
variable {σ : Hp} {o r : Nat} {β : Type}
theorem Osh.court (h : Osh σ o r) : Csh σ (o + 14) := h.2.2.2.2.2.2.2.2.2.1.1
theorem Osh.trial (h : Osh σ o r) : Csh σ (o + 61) := h.2.2.2.2.2.2.2.2.2.1.2
theorem Osh.slot (h : Osh σ o r) {i : Int} (i0 : 0 ≤ i) (i1 : i < 3) : Csh σ (o + 110 + 47 * i.toNat) := h.2.2.2.2.2.2.2.2.2.2.1 i i0 i1
theorem Osh.undo (h : Osh σ o r) {i : Int} (i0 : 0 ≤ i) (i1 : i < 20) : Csh σ (o + 277 + 47 * i.toNat) := h.2.2.2.2.2.2.2.2.2.2.2 i i0 i1
theorem o_rcv (h : Osh σ o r) (f : Nat → Option β) : (rcv σ 0 (some o)).bind f = f o := by obtain ⟨⟨g, h1, -⟩, -⟩ := h; exact obP (rcv_s h1) f
theorem o_gI (h : Osh σ o r) (k : Int) (f : Int → Option β) : (gI σ 0 (some o) k).bind f = f (ci σ o k) := by obtain ⟨⟨g, h1, -⟩, -⟩ := h; exact obP (gI_s h1 k) f
theorem o_pI (h : Osh σ o r) (k v : Int) (f : Hp → Option β) : (pI σ 0 (some o) k v).bind f = f (wr σ o k v) := by obtain ⟨⟨g, h1, -⟩, -⟩ := h; exact obP (pI_s h1 k v) f
theorem o_g3 (h : Osh σ o r) (f : Option Nat → Option β) : (gR σ 0 (some o) 3).bind f = f (some r) := by obtain ⟨⟨g, h1, e, -⟩, -⟩ := h; exact obP (by rw [gR_s h1, e]) f
theorem o_g0 (h : Osh σ o r) (f : Option Nat → Option β) : (gR σ 0 (some o) 0).bind f = f (some (o + 1)) := by obtain ⟨⟨g, h1, -, e, -⟩, -⟩ := h; exact obP (by rw [gR_s h1, e]) f
theorem o_g1 (h : Osh σ o r) (f : Option Nat → Option β) : (gR σ 0 (some o) 1).bind f = f (some (o + 2)) := by obtain ⟨⟨g, h1, -, -, e, -⟩, -⟩ := h; exact obP (by rw [gR_s h1, e]) f
theorem o_g2 (h : Osh σ o r) (f : Option Nat → Option β) : (gR σ 0 (some o) 2).bind f = f (some (o + 9)) := by obtain ⟨⟨g, h1, -, -, -, e, -⟩, -⟩ := h; exact obP (by rw [gR_s h1, e]) f
theorem o_g7 (h : Osh σ o r) (f : Option Nat → Option β) : (gR σ 0 (some o) 7).bind f = f (some (o + 14)) := by obtain ⟨⟨g, h1, -, -, -, -, e, -⟩, -⟩ := h; exact obP (by rw [gR_s h1, e]) f
theorem o_g8 (h : Osh σ o r) (f : Option Nat → Option β) : (gR σ 0 (some o) 8).bind f = f (some (o + 61)) := by obtain ⟨⟨g, h1, -, -, -, -, -, e, -⟩, -⟩ := h; exact obP (by rw [gR_s h1, e]) f
theorem o_g9 (h : Osh σ o r) (f : Option Nat → Option β) : (gR σ 0 (some o) 9).bind f = f (some (o + 108)) := by obtain ⟨⟨g, h1, -, -, -, -, -, -, e, -⟩, -⟩ := h; exact obP (by rw [gR_s h1, e]) f
theorem o_g10 (h : Osh σ o r) (f : Option Nat → Option β) : (gR σ 0 (some o) 10).bind f = f (some (o + 109)) := by obtain ⟨⟨g, h1, -, -, -, -, -, -, -, e, -⟩, -⟩ := h; exact obP (by rw [gR_s h1, e]) f
theorem o_g11 (h : Osh σ o r) (f : Option Nat → Option β) : (gR σ 0 (some o) 11).bind f = f (some (o + 251)) := by obtain ⟨⟨g, h1, -, -, -, -, -, -, -, -, e, -⟩, -⟩ := h; exact obP (by rw [gR_s h1, e]) f
theorem o_g12 (h : Osh σ o r) (f : Option Nat → Option β) : (gR σ 0 (some o) 12).bind f = f (some (o + 252)) := by obtain ⟨⟨g, h1, -, -, -, -, -, -, -, -, -, e, -⟩, -⟩ := h; exact obP (by rw [gR_s h1, e]) f
theorem o_g13 (h : Osh σ o r) (f : Option Nat → Option β) : (gR σ 0 (some o) 13).bind f = f (some (o + 253)) := by obtain ⟨⟨g, h1, -, -, -, -, -, -, -, -, -, -, e, -⟩, -⟩ := h; exact obP (by rw [gR_s h1, e]) f
theorem o_g14 (h : Osh σ o r) (f : Option Nat → Option β) : (gR σ 0 (some o) 14).bind f = f (some (o + 254)) := by obtain ⟨⟨g, h1, -, -, -, -, -, -, -, -, -, -, -, e, -⟩, -⟩ := h; exact obP (by rw [gR_s h1, e]) f
theorem o_g15 (h : Osh σ o r) (f : Option Nat → Option β) : (gR σ 0 (some o) 15).bind f = f (some (o + 263)) := by obtain ⟨⟨g, h1, -, -, -, -, -, -, -, -, -, -, -, -, e, -⟩, -⟩ := h; exact obP (by rw [gR_s h1, e]) f
theorem o_g17 (h : Osh σ o r) (f : Option Nat → Option β) : (gR σ 0 (some o) 17).bind f = f (some (o + 272)) := by obtain ⟨⟨g, h1, -, -, -, -, -, -, -, -, -, -, -, -, -, e, -⟩, -⟩ := h; exact obP (by rw [gR_s h1, e]) f
theorem o_g19 (h : Osh σ o r) (f : Option Nat → Option β) : (gR σ 0 (some o) 19).bind f = f (some (o + 273)) := by obtain ⟨⟨g, h1, -, -, -, -, -, -, -, -, -, -, -, -, -, -, e, -⟩, -⟩ := h; exact obP (by rw [gR_s h1, e]) f
theorem o_g20 (h : Osh σ o r) (f : Option Nat → Option β) : (gR σ 0 (some o) 20).bind f = f (some (o + 274)) := by obtain ⟨⟨g, h1, -, -, -, -, -, -, -, -, -, -, -, -, -, -, -, e, -⟩, -⟩ := h; exact obP (by rw [gR_s h1, e]) f
theorem o_g21 (h : Osh σ o r) (f : Option Nat → Option β) : (gR σ 0 (some o) 21).bind f = f (some (o + 275)) := by obtain ⟨⟨g, h1, -, -, -, -, -, -, -, -, -, -, -, -, -, -, -, -, e, -⟩, -⟩ := h; exact obP (by rw [gR_s h1, e]) f
theorem o_g22 (h : Osh σ o r) (f : Option Nat → Option β) : (gR σ 0 (some o) 22).bind f = f (some (o + 276)) := by obtain ⟨⟨g, h1, -, -, -, -, -, -, -, -, -, -, -, -, -, -, -, -, -, e⟩, -⟩ := h; exact obP (by rw [gR_s h1, e]) f
theorem o_s1 (h : Osh σ o r) : ∃ g : Int → Option Nat, shp σ (o + 1) = some (1, 8, g) := by obtain ⟨-, ⟨h, -⟩, -⟩ := h; exact h
theorem o_a1 (h : Osh σ o r) (k : Int) (f : Int → Option β) : (gI σ 1 (some (o + 1)) k).bind f = f (ci σ (o + 1) k) := by obtain ⟨g, e⟩ := o_s1 h; exact gI_b e k f
theorem o_w1 (h : Osh σ o r) (k v : Int) (f : Hp → Option β) : (pI σ 1 (some (o + 1)) k v).bind f = f (wr σ (o + 1) k v) := by obtain ⟨g, e⟩ := o_s1 h; exact pI_b e k v f
theorem o_r1 (h : Osh σ o r) (f : Nat → Option β) : (rcv σ 1 (some (o + 1))).bind f = f (o + 1) := by obtain ⟨g, e⟩ := o_s1 h; exact rcv_b e f
theorem o_s4 (h : Osh σ o r) : ∃ g : Int → Option Nat, shp σ (o + 4) = some (101, 2000, g) := by obtain ⟨-, ⟨-, h, -⟩, -⟩ := h; exact h
theorem o_a4 (h : Osh σ o r) {i : Int} (h0 : 0 ≤ i) (h1 : i < 2000) (f : Int → Option β) : (aI σ 101 (some (o + 4)) i).bind f = f (ci σ (o + 4) i) := by obtain ⟨g, e⟩ := o_s4 h; exact aI_b e h0 h1 (by omega) f
theorem o_w4 (h : Osh σ o r) {i : Int} (v : Int) (h0 : 0 ≤ i) (h1 : i < 2000) (f : Hp → Option β) : (sI σ 101 (some (o + 4)) i v).bind f = f (wr σ (o + 4) i v) := by obtain ⟨g, e⟩ := o_s4 h; exact sI_b e v h0 h1 (by omega) f
theorem o_s5 (h : Osh σ o r) : ∃ g : Int → Option Nat, shp σ (o + 5) = some (101, 2001, g) := by obtain ⟨-, ⟨-, -, h, -⟩, -⟩ := h; exact h
theorem o_a5 (h : Osh σ o r) {i : Int} (h0 : 0 ≤ i) (h1 : i < 2001) (f : Int → Option β) : (aI σ 101 (some (o + 5)) i).bind f = f (ci σ (o + 5) i) := by obtain ⟨g, e⟩ := o_s5 h; exact aI_b e h0 h1 (by omega) f
theorem o_w5 (h : Osh σ o r) {i : Int} (v : Int) (h0 : 0 ≤ i) (h1 : i < 2001) (f : Hp → Option β) : (sI σ 101 (some (o + 5)) i v).bind f = f (wr σ (o + 5) i v) := by obtain ⟨g, e⟩ := o_s5 h; exact sI_b e v h0 h1 (by omega) f
theorem o_s6 (h : Osh σ o r) : ∃ g : Int → Option Nat, shp σ (o + 6) = some (103, 2001, g) := by obtain ⟨-, ⟨-, -, -, h, -⟩, -⟩ := h; exact h
theorem o_a6 (h : Osh σ o r) {i : Int} (h0 : 0 ≤ i) (h1 : i < 2001) (f : Int → Option β) : (aI σ 103 (some (o + 6)) i).bind f = f (ci σ (o + 6) i) := by obtain ⟨g, e⟩ := o_s6 h; exact aI_b e h0 h1 (by omega) f
theorem o_w6 (h : Osh σ o r) {i : Int} (v : Int) (h0 : 0 ≤ i) (h1 : i < 2001) (f : Hp → Option β) : (sI σ 103 (some (o + 6)) i v).bind f = f (wr σ (o + 6) i v) := by obtain ⟨g, e⟩ := o_s6 h; exact sI_b e v h0 h1 (by omega) f
theorem o_s7 (h : Osh σ o r) : ∃ g : Int → Option Nat, shp σ (o + 7) = some (103, 2001, g) := by obtain ⟨-, ⟨-, -, -, -, h, -⟩, -⟩ := h; exact h
theorem o_a7 (h : Osh σ o r) {i : Int} (h0 : 0 ≤ i) (h1 : i < 2001) (f : Int → Option β) : (aI σ 103 (some (o + 7)) i).bind f = f (ci σ (o + 7) i) := by obtain ⟨g, e⟩ := o_s7 h; exact aI_b e h0 h1 (by omega) f
theorem o_w7 (h : Osh σ o r) {i : Int} (v : Int) (h0 : 0 ≤ i) (h1 : i < 2001) (f : Hp → Option β) : (sI σ 103 (some (o + 7)) i v).bind f = f (wr σ (o + 7) i v) := by obtain ⟨g, e⟩ := o_s7 h; exact sI_b e v h0 h1 (by omega) f
theorem o_s8 (h : Osh σ o r) : ∃ g : Int → Option Nat, shp σ (o + 8) = some (103, 2001, g) := by obtain ⟨-, ⟨-, -, -, -, -, h, -⟩, -⟩ := h; exact h
theorem o_a8 (h : Osh σ o r) {i : Int} (h0 : 0 ≤ i) (h1 : i < 2001) (f : Int → Option β) : (aI σ 103 (some (o + 8)) i).bind f = f (ci σ (o + 8) i) := by obtain ⟨g, e⟩ := o_s8 h; exact aI_b e h0 h1 (by omega) f
theorem o_w8 (h : Osh σ o r) {i : Int} (v : Int) (h0 : 0 ≤ i) (h1 : i < 2001) (f : Hp → Option β) : (sI σ 103 (some (o + 8)) i v).bind f = f (wr σ (o + 8) i v) := by obtain ⟨g, e⟩ := o_s8 h; exact sI_b e v h0 h1 (by omega) f
theorem o_s251 (h : Osh σ o r) : ∃ g : Int → Option Nat, shp σ (o + 251) = some (102, 3, g) := by obtain ⟨-, ⟨-, -, -, -, -, -, h, -⟩, -⟩ := h; exact h
theorem o_a251 (h : Osh σ o r) {i : Int} (h0 : 0 ≤ i) (h1 : i < 3) (f : Int → Option β) : (aI σ 102 (some (o + 251)) i).bind f = f (ci σ (o + 251) i) := by obtain ⟨g, e⟩ := o_s251 h; exact aI_b e h0 h1 (by omega) f
theorem o_w251 (h : Osh σ o r) {i : Int} (v : Int) (h0 : 0 ≤ i) (h1 : i < 3) (f : Hp → Option β) : (sI σ 102 (some (o + 251)) i v).bind f = f (wr σ (o + 251) i v) := by obtain ⟨g, e⟩ := o_s251 h; exact sI_b e v h0 h1 (by omega) f
theorem o_s252 (h : Osh σ o r) : ∃ g : Int → Option Nat, shp σ (o + 252) = some (7, 2, g) := by obtain ⟨-, ⟨-, -, -, -, -, -, -, h, -⟩, -⟩ := h; exact h
theorem o_a252 (h : Osh σ o r) (k : Int) (f : Int → Option β) : (gI σ 7 (some (o + 252)) k).bind f = f (ci σ (o + 252) k) := by obtain ⟨g, e⟩ := o_s252 h; exact gI_b e k f
theorem o_w252 (h : Osh σ o r) (k v : Int) (f : Hp → Option β) : (pI σ 7 (some (o + 252)) k v).bind f = f (wr σ (o + 252) k v) := by obtain ⟨g, e⟩ := o_s252 h; exact pI_b e k v f
theorem o_r252 (h : Osh σ o r) (f : Nat → Option β) : (rcv σ 7 (some (o + 252))).bind f = f (o + 252) := by obtain ⟨g, e⟩ := o_s252 h; exact rcv_b e f
theorem o_s253 (h : Osh σ o r) : ∃ g : Int → Option Nat, shp σ (o + 253) = some (100, 300, g) := by obtain ⟨-, ⟨-, -, -, -, -, -, -, -, h, -⟩, -⟩ := h; exact h
theorem o_a253 (h : Osh σ o r) {i : Int} (h0 : 0 ≤ i) (h1 : i < 300) (f : Int → Option β) : (aI σ 100 (some (o + 253)) i).bind f = f (ci σ (o + 253) i) := by obtain ⟨g, e⟩ := o_s253 h; exact aI_b e h0 h1 (by omega) f
theorem o_w253 (h : Osh σ o r) {i : Int} (v : Int) (h0 : 0 ≤ i) (h1 : i < 300) (f : Hp → Option β) : (sI σ 100 (some (o + 253)) i v).bind f = f (wr σ (o + 253) i v) := by obtain ⟨g, e⟩ := o_s253 h; exact sI_b e v h0 h1 (by omega) f
theorem o_s272 (h : Osh σ o r) : ∃ g : Int → Option Nat, shp σ (o + 272) = some (100, 8, g) := by obtain ⟨-, ⟨-, -, -, -, -, -, -, -, -, h, -⟩, -⟩ := h; exact h
theorem o_a272 (h : Osh σ o r) {i : Int} (h0 : 0 ≤ i) (h1 : i < 8) (f : Int → Option β) : (aI σ 100 (some (o + 272)) i).bind f = f (ci σ (o + 272) i) := by obtain ⟨g, e⟩ := o_s272 h; exact aI_b e h0 h1 (by omega) f
theorem o_w272 (h : Osh σ o r) {i : Int} (v : Int) (h0 : 0 ≤ i) (h1 : i < 8) (f : Hp → Option β) : (sI σ 100 (some (o + 272)) i v).bind f = f (wr σ (o + 272) i v) := by obtain ⟨g, e⟩ := o_s272 h; exact sI_b e v h0 h1 (by omega) f
theorem o_s273 (h : Osh σ o r) : ∃ g : Int → Option Nat, shp σ (o + 273) = some (100, 20, g) := by obtain ⟨-, ⟨-, -, -, -, -, -, -, -, -, -, h, -⟩, -⟩ := h; exact h
theorem o_a273 (h : Osh σ o r) {i : Int} (h0 : 0 ≤ i) (h1 : i < 20) (f : Int → Option β) : (aI σ 100 (some (o + 273)) i).bind f = f (ci σ (o + 273) i) := by obtain ⟨g, e⟩ := o_s273 h; exact aI_b e h0 h1 (by omega) f
theorem o_w273 (h : Osh σ o r) {i : Int} (v : Int) (h0 : 0 ≤ i) (h1 : i < 20) (f : Hp → Option β) : (sI σ 100 (some (o + 273)) i v).bind f = f (wr σ (o + 273) i v) := by obtain ⟨g, e⟩ := o_s273 h; exact sI_b e v h0 h1 (by omega) f
theorem o_s274 (h : Osh σ o r) : ∃ g : Int → Option Nat, shp σ (o + 274) = some (100, 20, g) := by obtain ⟨-, ⟨-, -, -, -, -, -, -, -, -, -, -, h, -⟩, -⟩ := h; exact h
theorem o_a274 (h : Osh σ o r) {i : Int} (h0 : 0 ≤ i) (h1 : i < 20) (f : Int → Option β) : (aI σ 100 (some (o + 274)) i).bind f = f (ci σ (o + 274) i) := by obtain ⟨g, e⟩ := o_s274 h; exact aI_b e h0 h1 (by omega) f
theorem o_w274 (h : Osh σ o r) {i : Int} (v : Int) (h0 : 0 ≤ i) (h1 : i < 20) (f : Hp → Option β) : (sI σ 100 (some (o + 274)) i v).bind f = f (wr σ (o + 274) i v) := by obtain ⟨g, e⟩ := o_s274 h; exact sI_b e v h0 h1 (by omega) f
theorem o_s275 (h : Osh σ o r) : ∃ g : Int → Option Nat, shp σ (o + 275) = some (100, 20, g) := by obtain ⟨-, ⟨-, -, -, -, -, -, -, -, -, -, -, -, h, -⟩, -⟩ := h; exact h
theorem o_a275 (h : Osh σ o r) {i : Int} (h0 : 0 ≤ i) (h1 : i < 20) (f : Int → Option β) : (aI σ 100 (some (o + 275)) i).bind f = f (ci σ (o + 275) i) := by obtain ⟨g, e⟩ := o_s275 h; exact aI_b e h0 h1 (by omega) f
theorem o_w275 (h : Osh σ o r) {i : Int} (v : Int) (h0 : 0 ≤ i) (h1 : i < 20) (f : Hp → Option β) : (sI σ 100 (some (o + 275)) i v).bind f = f (wr σ (o + 275) i v) := by obtain ⟨g, e⟩ := o_s275 h; exact sI_b e v h0 h1 (by omega) f
theorem o_s276 (h : Osh σ o r) : ∃ g : Int → Option Nat, shp σ (o + 276) = some (102, 20, g) := by obtain ⟨-, ⟨-, -, -, -, -, -, -, -, -, -, -, -, -, h⟩, -⟩ := h; exact h
theorem o_a276 (h : Osh σ o r) {i : Int} (h0 : 0 ≤ i) (h1 : i < 20) (f : Int → Option β) : (aI σ 102 (some (o + 276)) i).bind f = f (ci σ (o + 276) i) := by obtain ⟨g, e⟩ := o_s276 h; exact aI_b e h0 h1 (by omega) f
theorem o_w276 (h : Osh σ o r) {i : Int} (v : Int) (h0 : 0 ≤ i) (h1 : i < 20) (f : Hp → Option β) : (sI σ 102 (some (o + 276)) i v).bind f = f (wr σ (o + 276) i v) := by obtain ⟨g, e⟩ := o_s276 h; exact sI_b e v h0 h1 (by omega) f
theorem k_s (h : Osh σ o r) : ∃ g : Int → Option Nat, shp σ (o + 2) = some (2, 8, g) := by obtain ⟨-, -, ⟨g, h1, -⟩, -⟩ := h; exact ⟨g, h1⟩
theorem k_r (h : Osh σ o r) (f : Nat → Option β) : (rcv σ 2 (some (o + 2))).bind f = f (o + 2) := by obtain ⟨g, h1⟩ := k_s h; exact rcv_b h1 f
theorem k_gI (h : Osh σ o r) (k : Int) (f : Int → Option β) : (gI σ 2 (some (o + 2)) k).bind f = f (ci σ (o + 2) k) := by obtain ⟨g, h1⟩ := k_s h; exact gI_b h1 k f
theorem k_pI (h : Osh σ o r) (k v : Int) (f : Hp → Option β) : (pI σ 2 (some (o + 2)) k v).bind f = f (wr σ (o + 2) k v) := by obtain ⟨g, h1⟩ := k_s h; exact pI_b h1 k v f
theorem k_g0 (h : Osh σ o r) (f : Option Nat → Option β) : (gR σ 2 (some (o + 2)) 0).bind f = f (some (o + 3)) := by obtain ⟨-, -, ⟨g, h1, e, -⟩, -⟩ := h; exact obP (by rw [gR_s h1, e]) f
theorem k_g1 (h : Osh σ o r) (f : Option Nat → Option β) : (gR σ 2 (some (o + 2)) 1).bind f = f (some (o + 4)) := by obtain ⟨-, -, ⟨g, h1, -, e, -⟩, -⟩ := h; exact obP (by rw [gR_s h1, e]) f
theorem k_g3 (h : Osh σ o r) (f : Option Nat → Option β) : (gR σ 2 (some (o + 2)) 3).bind f = f (some (o + 5)) := by obtain ⟨-, -, ⟨g, h1, -, -, e, -⟩, -⟩ := h; exact obP (by rw [gR_s h1, e]) f
theorem k_g4 (h : Osh σ o r) (f : Option Nat → Option β) : (gR σ 2 (some (o + 2)) 4).bind f = f (some (o + 6)) := by obtain ⟨-, -, ⟨g, h1, -, -, -, e, -⟩, -⟩ := h; exact obP (by rw [gR_s h1, e]) f
theorem k_g5 (h : Osh σ o r) (f : Option Nat → Option β) : (gR σ 2 (some (o + 2)) 5).bind f = f (some (o + 7)) := by obtain ⟨-, -, ⟨g, h1, -, -, -, -, e, -⟩, -⟩ := h; exact obP (by rw [gR_s h1, e]) f
theorem k_g6 (h : Osh σ o r) (f : Option Nat → Option β) : (gR σ 2 (some (o + 2)) 6).bind f = f (some (o + 8)) := by obtain ⟨-, -, ⟨g, h1, -, -, -, -, -, e⟩, -⟩ := h; exact obP (by rw [gR_s h1, e]) f
theorem o_r108 (h : Osh σ o r) {i : Int} (h0 : 0 ≤ i) (h1 : i < 20) (f : Option Nat → Option β) : (aR σ 110 (some (o + 108)) i).bind f = f (some (o + 277 + 47 * i.toNat)) := by obtain ⟨-, -, -, -, -, ⟨g, e, e2⟩, -⟩ := h; rw [aR_b e h0 h1 (by omega), e2 i h0 h1]
theorem o_r109 (h : Osh σ o r) {i : Int} (h0 : 0 ≤ i) (h1 : i < 3) (f : Option Nat → Option β) : (aR σ 110 (some (o + 109)) i).bind f = f (some (o + 110 + 47 * i.toNat)) := by obtain ⟨-, -, -, -, -, -, ⟨g, e, e2⟩, -⟩ := h; rw [aR_b e h0 h1 (by omega), e2 i h0 h1]
theorem o_r254 (h : Osh σ o r) {i : Int} (h0 : 0 ≤ i) (h1 : i < 8) (f : Option Nat → Option β) : (aR σ 106 (some (o + 254)) i).bind f = f (some (o + 255 + i.toNat)) := by obtain ⟨-, -, -, -, -, -, -, ⟨⟨g, e, e2⟩, -⟩, -⟩ := h; rw [aR_b e h0 h1 (by omega), e2 i h0 h1]
theorem o_r263 (h : Osh σ o r) {i : Int} (h0 : 0 ≤ i) (h1 : i < 8) (f : Option Nat → Option β) : (aR σ 106 (some (o + 263)) i).bind f = f (some (o + 264 + i.toNat)) := by obtain ⟨-, -, -, -, -, -, -, -, ⟨⟨g, e, e2⟩, -⟩, -⟩ := h; rw [aR_b e h0 h1 (by omega), e2 i h0 h1]
theorem o_s255 (h : Osh σ o r) {i : Int} (h0 : 0 ≤ i) (h1 : i < 8) : ∃ g : Int → Option Nat, shp σ (o + 255 + i.toNat) = some (102, 300, g) := by obtain ⟨-, -, -, -, -, -, -, ⟨-, e⟩, -⟩ := h; exact e i h0 h1
theorem o_s264 (h : Osh σ o r) {i : Int} (h0 : 0 ≤ i) (h1 : i < 8) : ∃ g : Int → Option Nat, shp σ (o + 264 + i.toNat) = some (102, 300, g) := by obtain ⟨-, -, -, -, -, -, -, -, ⟨-, e⟩, -⟩ := h; exact e i h0 h1
theorem o_a255 (h : Osh σ o r) {i t : Int} (h0 : 0 ≤ i) (h1 : i < 8) (t0 : 0 ≤ t) (t1 : t < 300) (f : Int → Option β) : (aI σ 102 (some (o + 255 + i.toNat)) t).bind f = f (ci σ (o + 255 + i.toNat) t) := by obtain ⟨g, e⟩ := o_s255 h h0 h1; exact aI_b e t0 t1 (by omega) f
theorem o_a264 (h : Osh σ o r) {i t : Int} (h0 : 0 ≤ i) (h1 : i < 8) (t0 : 0 ≤ t) (t1 : t < 300) (f : Int → Option β) : (aI σ 102 (some (o + 264 + i.toNat)) t).bind f = f (ci σ (o + 264 + i.toNat) t) := by obtain ⟨g, e⟩ := o_s264 h h0 h1; exact aI_b e t0 t1 (by omega) f
theorem o_w255 (h : Osh σ o r) {i t : Int} (v : Int) (h0 : 0 ≤ i) (h1 : i < 8) (t0 : 0 ≤ t) (t1 : t < 300) (f : Hp → Option β) : (sI σ 102 (some (o + 255 + i.toNat)) t v).bind f = f (wr σ (o + 255 + i.toNat) t v) := by obtain ⟨g, e⟩ := o_s255 h h0 h1; exact sI_b e v t0 t1 (by omega) f
theorem o_w264 (h : Osh σ o r) {i t : Int} (v : Int) (h0 : 0 ≤ i) (h1 : i < 8) (t0 : 0 ≤ t) (t1 : t < 300) (f : Hp → Option β) : (sI σ 102 (some (o + 264 + i.toNat)) t v).bind f = f (wr σ (o + 264 + i.toNat) t v) := by obtain ⟨g, e⟩ := o_s264 h h0 h1; exact sI_b e v t0 t1 (by omega) f
end

set_option maxRecDepth 100000
/-! ===== PURE: a text on the heap; Z: its cells ===== -/
def agr (Z : Nat → Prop) (σ τ : Hp) : Prop := ∀ x : Nat, Z x → τ.1 x = σ.1 x
theorem agr_shp {Z : Nat → Prop} {σ τ : Hp} (h : agr Z σ τ) {a : Nat} (ha : Z a) : shp τ a = shp σ a := by
  unfold shp
  rw [h a ha]
theorem agr_ci {Z : Nat → Prop} {σ τ : Hp} (h : agr Z σ τ) {a : Nat} (ha : Z a) : ci τ a = ci σ a := by
  funext j
  unfold ci
  rw [h a ha]
theorem agr_chg {Z S : Nat → Prop} {σ τ : Hp} (h : chgH S σ τ) (hd : ∀ x, Z x → ¬ S x) : agr Z σ τ := fun x hx => h.2.2 x (hd x hx)
theorem agr.tr {Z : Nat → Prop} {a b c : Hp} (h : agr Z a b) (g : agr Z b c) : agr Z a c := fun x hx => (g x hx).trans (h x hx)
/-- a list whose cells are of Z -/
def LstZ (Z : Nat → Prop) (σ : Hp) (a : Nat) (n : Int) (el : Int → Nat) : Prop := (0 ≤ n ∧ n ≤ 10) ∧ Z a ∧ ∃ gl : Int → Option Nat, shp σ a = some (18, 3, gl) ∧ ci σ a 2 = n ∧ (n = 0 ∨ ∃ (e : Nat) (m : Int) (ge : Int → Option Nat), gl 1 = some e ∧ Z e ∧ shp σ e = some (109, m, ge) ∧ n ≤ m ∧ ∀ i : Int, 0 ≤ i → i < n → ge i = some (el i))
theorem LstZ.at {Z : Nat → Prop} {σ : Hp} {a : Nat} {n : Int} {el : Int → Nat} (h : LstZ Z σ a n el) : LstAt σ a n el := by
  obtain ⟨h0, hz, gl, h1, h2, h3⟩ := h
  refine ⟨h0, gl, h1, h2, ?_⟩
  rcases h3 with h3 | ⟨e, m, ge, g1, -, g2⟩
  · exact Or.inl h3
  · exact Or.inr ⟨e, m, ge, g1, g2⟩
theorem LstZ.same {Z : Nat → Prop} {σ τ : Hp} {a : Nat} {n : Int} {el : Int → Nat} (h : LstZ Z σ a n el) (e : agr Z σ τ) : LstZ Z τ a n el := by
  obtain ⟨h0, hz, gl, h1, h2, h3⟩ := h
  refine ⟨h0, hz, gl, (agr_shp e hz).trans h1, by rw [agr_ci e hz]; exact h2, ?_⟩
  rcases h3 with h3 | ⟨x, m, ge, g1, gz, g2, g3⟩
  · exact Or.inl h3
  · exact Or.inr ⟨x, m, ge, g1, gz, (agr_shp e gz).trans g2, g3⟩
/-- the law at r (null: none) is L, for any cell of numbers outside Z -/
def lawC (Z : Nat → Prop) (σ : Hp) (l : Nat) (L : Lw) : Prop := Z l ∧ (∃ g : Int → Option Nat, shp σ l = some (12, 4, g)) ∧
  ∀ τ : Hp, agr Z σ τ → ∀ (k v : Nat) (g1 g2 : Int → Option Nat), shp τ k = some (6, 2, g1) → g1 0 = some v → shp τ v = some (100, 6, g2) → ¬ Z k → ¬ Z v → k ≠ v →
    ∃ τ' : Hp, f_X12_of τ l (some k) = some (L (ci τ v 0) (ci τ v 1) (ci τ v 2) (ci τ v 3) (ci τ v 4) (ci τ v 5), τ') ∧ chgH (· = k) τ τ' ∧ nrm (L (ci τ v 0) (ci τ v 1) (ci τ v 2) (ci τ v 3) (ci τ v 4) (ci τ v 5)) = L (ci τ v 0) (ci τ v 1) (ci τ v 2) (ci τ v 3) (ci τ v 4) (ci τ v 5)
theorem lawC.same {Z : Nat → Prop} {σ τ : Hp} {l : Nat} {L : Lw} (h : lawC Z σ l L) (e : agr Z σ τ) : lawC Z τ l L := by
  obtain ⟨h1, ⟨g, h2⟩, h3⟩ := h
  exact ⟨h1, ⟨g, (agr_shp e h1).trans h2⟩, fun τ' e' => h3 τ' (e.tr e')⟩
/-- none: the plain law -/
def lawO (Z : Nat → Prop) (σ : Hp) (r : Option Nat) (P L : Lw) : Prop := (r = none ∧ L = P) ∨ ∃ l : Nat, r = some l ∧ lawC Z σ l L
theorem lawO.same {Z : Nat → Prop} {σ τ : Hp} {r : Option Nat} {P L : Lw} (h : lawO Z σ r P L) (e : agr Z σ τ) : lawO Z τ r P L := by
  rcases h with h | ⟨l, h1, h2⟩
  · exact Or.inl h
  · exact Or.inr ⟨l, h1, h2.same e⟩
def RmAt (Z : Nat → Prop) (σ : Hp) (X : Txt) (i : Int) (a : Nat) : Prop := Z a ∧ ∃ (g : Int → Option Nat) (d : Nat) (gd : Int → Option Nat), shp σ a = some (10, 3, g) ∧ g 1 = some d ∧ Z d ∧ shp σ d = some (100, 24, gd) ∧ ci σ a 2 = wys X i ∧ ∀ j : Int, 0 ≤ j → j < wys X i → ci σ d j = thr1 X i (j + 1)
def MnAt (Z : Nat → Prop) (σ : Hp) (X : Txt) (i : Int) (a : Nat) : Prop := Z a ∧ ∃ g : Int → Option Nat, shp σ a = some (11, 4, g) ∧ ci σ a 1 = xRk X i ∧ ci σ a 2 = xRm X i ∧ lawO Z σ (g 3) (fun _ _ _ _ _ _ => 0) (xG X i)
def MrAt (Z : Nat → Prop) (σ : Hp) (X : Txt) (i : Int) (a : Nat) : Prop := Z a ∧ ∃ g : Int → Option Nat, shp σ a = some (17, 3, g) ∧ ci σ a 1 = xHg X i ∧ ci σ a 2 = xOw X i
def TxtAt (Z : Nat → Prop) (σ : Hp) (r : Nat) (X : Txt) : Prop := Z r ∧ ∃ (g : Int → Option Nat) (a1 a2 a3 : Nat) (e1 e2 e3 : Int → Nat), shp σ r = some (4, 7, g) ∧ (g 0 = some a1 ∧ g 1 = some a2 ∧ g 2 = some a3) ∧ (ci σ r 3 = xD X ∧ ci σ r 4 = xB X ∧ ci σ r 5 = xS X) ∧
  (LstZ Z σ a1 (xR X) e1 ∧ LstZ Z σ a2 (xM X) e2 ∧ LstZ Z σ a3 (xK X) e3) ∧ (∀ i : Int, 0 ≤ i → i < xR X → RmAt Z σ X i (e1 i)) ∧ (∀ i : Int, 0 ≤ i → i < xM X → MnAt Z σ X i (e2 i)) ∧ (∀ i : Int, 0 ≤ i → i < xK X → MrAt Z σ X i (e3 i)) ∧ lawO Z σ (g 6) (fun _ _ rk _ _ _ => rk) (xL X)
theorem TxtAt.same {Z : Nat → Prop} {σ τ : Hp} {r : Nat} {X : Txt} (h : TxtAt Z σ r X) (e : agr Z σ τ) : TxtAt Z τ r X := by
  obtain ⟨hz, g, a1, a2, a3, e1, e2, e3, h1, h2, h3, ⟨h4, h5, h6⟩, h7, h8, h9, h10⟩ := h
  refine ⟨hz, g, a1, a2, a3, e1, e2, e3, (agr_shp e hz).trans h1, h2, by rw [agr_ci e hz]; exact h3, ⟨h4.same e, h5.same e, h6.same e⟩, fun i i0 i1 => ?_, fun i i0 i1 => ?_, fun i i0 i1 => ?_, h10.same e⟩
  · obtain ⟨z, g, d, gd, b1, b2, bz, b3, b4, b5⟩ := h7 i i0 i1
    exact ⟨z, g, d, gd, (agr_shp e z).trans b1, b2, bz, (agr_shp e bz).trans b3, by rw [agr_ci e z]; exact b4, by rw [agr_ci e bz]; exact b5⟩
  · obtain ⟨z, g, b1, b2, b3, b4⟩ := h8 i i0 i1
    exact ⟨z, g, (agr_shp e z).trans b1, by rw [agr_ci e z]; exact b2, by rw [agr_ci e z]; exact b3, b4.same e⟩
  · obtain ⟨z, g, b1, b2, b3⟩ := h9 i i0 i1
    exact ⟨z, g, (agr_shp e z).trans b1, by rw [agr_ci e z]; exact b2, by rw [agr_ci e z]; exact b3⟩
section
variable {Z : Nat → Prop} {σ : Hp} {a r : Nat} {X : Txt} {K : Crt}
theorem x_men (h : TxtAt Z σ r X) : ∃ (b : Nat) (el : Int → Nat), gR σ 4 (some r) 1 = some (some b) ∧ LstAt σ b (xM X) el ∧ ∀ i : Int, 0 ≤ i → i < xM X → MnAt Z σ X i (el i) := by
  obtain ⟨hz, g, a1, a2, a3, e1, e2, e3, h1, h2, h3, ⟨h4, h5, h6⟩, h7, h8, h9, h10⟩ := h
  exact ⟨a2, e2, by rw [gR_s h1, h2.2.1], h5.at, h8⟩
theorem x_rooms (h : TxtAt Z σ r X) : ∃ (b : Nat) (el : Int → Nat), gR σ 4 (some r) 0 = some (some b) ∧ LstAt σ b (xR X) el ∧ ∀ i : Int, 0 ≤ i → i < xR X → RmAt Z σ X i (el i) := by
  obtain ⟨hz, g, a1, a2, a3, e1, e2, e3, h1, h2, h3, ⟨h4, h5, h6⟩, h7, h8, h9, h10⟩ := h
  exact ⟨a1, e1, by rw [gR_s h1, h2.1], h4.at, h7⟩
theorem x_mirrors (h : TxtAt Z σ r X) : ∃ (b : Nat) (el : Int → Nat), gR σ 4 (some r) 2 = some (some b) ∧ LstAt σ b (xK X) el ∧ ∀ i : Int, 0 ≤ i → i < xK X → MrAt Z σ X i (el i) := by
  obtain ⟨hz, g, a1, a2, a3, e1, e2, e3, h1, h2, h3, ⟨h4, h5, h6⟩, h7, h8, h9, h10⟩ := h
  exact ⟨a3, e3, by rw [gR_s h1, h2.2.2], h6.at, h9⟩
theorem h_menIn (hc : Csh σ a) (hx : TxtAt Z σ r X) {q : Int} (hK : CatQ q σ a X K) (hX : WfX X) (hW : WfQ q X K) {ro t : Int} (hr0 : -2147483648 ≤ ro) (hr1 : ro ≤ 2147483647) (h2 : 0 ≤ t) (h3 : t ≤ kMi K) : f_X5_menIn σ a (some r) ro t = some ((mIn X K ro t : Int), σ) := by
  have a1 := hX.2.2.1
  have a0 := hX.1
  have a2 := hW.1
  obtain ⟨b, el, g1, g2, -⟩ := x_men hx
  unfold f_X5_menIn mIn
  refine loop (S := Int × Int) (fun n q => f_X5_menIn_L6 a n σ (some r) ro t q.1 q.2 (fun s10 x4 => some (nrm x4, s10))) (· = some ((ms (fun m => decide (kW K m t = ro)) (xM X).toNat : Int), σ)) (fun i q => q = ((ms (fun m => decide (kW K m t = ro)) i : Int), (i : Int))) (xM X).toNat ?_ ?_ (xM X).toNat 0 FU (0, 0) (by omega) (by rw [FU_eq]; omega) rfl
  · rintro n i ⟨x, y⟩ hi he
    cases he
    refine Or.inr ⟨((ms (fun m => decide (kW K m t = ro)) (i + 1) : Int), ((i + 1 : Nat) : Int)), ?_, rfl⟩
    have hw := (hK.2.1 i t (by omega) (by omega) h2 h3).1
    have hw2 := (hW.2.1 i t (by omega) (by omega) h2 h3).1
    have hl : ms (fun m => decide (kW K m t = ro)) i < 2 ^ i := ms_lt _ _
    have hp : 2 ^ i ≤ 2 ^ 6 := Nat.pow_le_pow_right (by decide) (by omega)
    show f_X5_menIn_L6 a (n + 1) σ _ ro t _ _ _ = f_X5_menIn_L6 a n σ _ ro t _ _ _
    rw [f_X5_menIn_L6, g1, obS, l_rcv g2, obS, l_size g2, bnS, nrm_i (z := xM X) (by omega) (by omega), nrm_i (by omega) (by omega), if_neg (by omega), c_g0 hc, obS, c_r0 hc (by omega) (by omega), obS, c_a0 hc (by omega) (by omega) h2 (by omega), obS, hw, nrm_i (by omega) (by omega), nrm_i hr0 hr1, ms]
    by_cases h : kW K i t = ro
    · rw [if_neg (by omega), slI_1 i (by omega), orI_nat _ _ (by omega) (by omega), if_pos (by simpa using h)]
      rfl
    · rw [if_pos h, if_neg (by simpa using h), show (0 : Int) = ((0 : Nat) : Int) from rfl, orI_nat _ _ (by omega) (by omega)]
      rfl
  · rintro n ⟨x, y⟩ he
    cases he
    show f_X5_menIn_L6 a (n + 1) σ _ ro t _ _ _ = _
    have hl : mIn X K ro t < 64 := mIn_lt X hX K ro t
    unfold mIn at hl
    rw [f_X5_menIn_L6, g1, obS, l_rcv g2, obS, l_size g2, bnS, nrm_i (z := xM X) (by omega) (by omega), nrm_i (z := (((xM X).toNat : Nat) : Int)) (by omega) (by omega), if_pos (by omega)]
    show some (nrm ((ms (fun m => decide (kW K m t = ro)) (xM X).toNat : Nat) : Int), σ) = _
    rw [nrm_i (by omega) (by omega)]
theorem h_menShown (hc : Csh σ a) (hx : TxtAt Z σ r X) (hK : Cat σ a X K) (hX : WfX X) (hW : WfK X K) {k t : Int} (h0 : 0 ≤ k) (h1 : k < xK X) (h2 : 0 ≤ t) (h3 : t ≤ kMi K) : f_X5_menShown σ a (some r) k t = some ((mSh X K k t : Int), σ) := by
  have a4 := hX.2.2.2.1
  have a0 := hX.1
  have a2 := hW.1
  have hsh := shw_le hW h0 h1 h2 h3
  unfold f_X5_menShown mSh
  rw [c_o hc, obS, h_shows hc hK hX hW h0 h1 h2 h3, bnS, nrm_i (by omega) (by omega)]
  by_cases e : 0 ≤ shw K k t
  · have hh := (hW.2.2.1 k (shw K k t) h0 h1 e (by omega)).1
    rw [if_pos e, if_pos e, c_g2 hc, obS, c_r2 hc h0 (by omega), obS, c_a2 hc h0 (by omega) e (by omega), obS, (hK.2.2.1 k (shw K k t) h0 h1 e (by omega)).1, c_o hc, obS, h_menIn hc hx hK hX hW (by omega) (by omega) e (by omega), bnS]
  · rw [if_neg e, if_neg e]
    rfl
end

set_option maxRecDepth 100000
set_option maxHeartbeats 1000000
/-! ===== PURE: the component's tokens ===== -/
def sgc (c : Int) : Int := if c = 40 ∨ c = 41 ∨ c = 42 ∨ c = 43 ∨ c = 45 ∨ c = 47 ∨ c = 59 ∨ c = 60 ∨ c = 61 then c else 0
def cKd (k : Int) : Int := if k = 0 then 4 else if k = 1 then 0 else if k = 2 then 1 else if k = 3 then 5 else if 20 ≤ k then 3 else 2
def TkC (σ : Hp) (o : Nat) (n : Int) (b : Int → Int) (c : Nat) : Prop := ∀ i : Nat, i < c → ci σ (o + 5) i = cKd (tkK n b (tps n b i)) ∧ ci σ (o + 6) i = tps n b i ∧ (tps n b i < n → ci σ (o + 7) i = tkE n b (tps n b i)) ∧ (20 ≤ tkK n b (tps n b i) → ci σ (o + 8) i = tkK n b (tps n b i) - 20) ∧ (ltr n b (tps n b i) = false → dgt n b (tps n b i) = false → tps n b i < n → ci σ (o + 8) i = sgc (ub n b (tps n b i)))
section
variable {σ τ : Hp} {o r : Nat} {n : Int} {b : Int → Int} {β : Type}
theorem i16_id2 : ∀ m : Nat, m < 2100 → i16I ((m : Int) - 1) = (m : Int) - 1 := by decide +kernel
theorem i16_j {z : Int} (h : -1 ≤ z) (h2 : z ≤ 2001) : i16I z = z := by
  have := i16_id2 (z + 1).toNat (by omega)
  rw [show (((z + 1).toNat : Nat) : Int) - 1 = z by omega] at this
  exact this
theorem sgc_v {v : Int} (s : Hp) : (if v = 40 then (some (v, s)) else (if v = 41 then (some (v, s)) else (if v = 42 then (some (v, s)) else (if v = 43 then (some (v, s)) else (if v = 44 then (some (0, s)) else (if v = 45 then (some (v, s)) else (if v = 46 then (some (0, s)) else (if v = 47 then (some (v, s)) else (if v = 48 then (some (0, s)) else (if v = 49 then (some (0, s)) else (if v = 50 then (some (0, s)) else (if v = 51 then (some (0, s)) else (if v = 52 then (some (0, s)) else (if v = 53 then (some (0, s)) else (if v = 54 then (some (0, s)) else (if v = 55 then (some (0, s)) else (if v = 56 then (some (0, s)) else (if v = 57 then (some (0, s)) else (if v = 58 then (some (0, s)) else (if v = 59 then (some (v, s)) else (if v = 60 then (some (v, s)) else (if v = 61 then (some (v, s)) else (some (0, s)))))))))))))))))))))))) = some (sgc v, s) := by
  by_cases c40 : v = 40
  · rw [if_pos c40, c40, show sgc 40 = 40 by decide]
  rw [if_neg c40]
  by_cases c41 : v = 41
  · rw [if_pos c41, c41, show sgc 41 = 41 by decide]
  rw [if_neg c41]
  by_cases c42 : v = 42
  · rw [if_pos c42, c42, show sgc 42 = 42 by decide]
  rw [if_neg c42]
  by_cases c43 : v = 43
  · rw [if_pos c43, c43, show sgc 43 = 43 by decide]
  rw [if_neg c43]
  by_cases c44 : v = 44
  · rw [if_pos c44, c44, show sgc 44 = 0 by decide]
  rw [if_neg c44]
  by_cases c45 : v = 45
  · rw [if_pos c45, c45, show sgc 45 = 45 by decide]
  rw [if_neg c45]
  by_cases c46 : v = 46
  · rw [if_pos c46, c46, show sgc 46 = 0 by decide]
  rw [if_neg c46]
  by_cases c47 : v = 47
  · rw [if_pos c47, c47, show sgc 47 = 47 by decide]
  rw [if_neg c47]
  by_cases c48 : v = 48
  · rw [if_pos c48, c48, show sgc 48 = 0 by decide]
  rw [if_neg c48]
  by_cases c49 : v = 49
  · rw [if_pos c49, c49, show sgc 49 = 0 by decide]
  rw [if_neg c49]
  by_cases c50 : v = 50
  · rw [if_pos c50, c50, show sgc 50 = 0 by decide]
  rw [if_neg c50]
  by_cases c51 : v = 51
  · rw [if_pos c51, c51, show sgc 51 = 0 by decide]
  rw [if_neg c51]
  by_cases c52 : v = 52
  · rw [if_pos c52, c52, show sgc 52 = 0 by decide]
  rw [if_neg c52]
  by_cases c53 : v = 53
  · rw [if_pos c53, c53, show sgc 53 = 0 by decide]
  rw [if_neg c53]
  by_cases c54 : v = 54
  · rw [if_pos c54, c54, show sgc 54 = 0 by decide]
  rw [if_neg c54]
  by_cases c55 : v = 55
  · rw [if_pos c55, c55, show sgc 55 = 0 by decide]
  rw [if_neg c55]
  by_cases c56 : v = 56
  · rw [if_pos c56, c56, show sgc 56 = 0 by decide]
  rw [if_neg c56]
  by_cases c57 : v = 57
  · rw [if_pos c57, c57, show sgc 57 = 0 by decide]
  rw [if_neg c57]
  by_cases c58 : v = 58
  · rw [if_pos c58, c58, show sgc 58 = 0 by decide]
  rw [if_neg c58]
  by_cases c59 : v = 59
  · rw [if_pos c59, c59, show sgc 59 = 59 by decide]
  rw [if_neg c59]
  by_cases c60 : v = 60
  · rw [if_pos c60, c60, show sgc 60 = 60 by decide]
  rw [if_neg c60]
  by_cases c61 : v = 61
  · rw [if_pos c61, c61, show sgc 61 = 61 by decide]
  rw [if_neg c61]
  unfold sgc
  rw [if_neg (by omega)]
theorem h_sg (hO : Osh σ o r) (P : TpC σ o n b) (hb : WfB n b) {p : Int} (h0 : 0 ≤ p) (h1 : p < n) (f : Int → Hp → Option β) : bn (f_X2_sign σ (o + 2) p) f = f (sgc (ub n b p)) σ := by
  have hn := hb.1
  have hv := hb.2 p h0 h1
  have e : sgc (ub n b p) = sgc (b p) := by
    unfold ub
    rw [if_neg (by omega)]
    split
    · unfold sgc; rw [if_neg (by omega), if_neg (by omega)]
    · rfl
  rw [e]
  refine bnP ?_ f
  unfold f_X2_sign
  rw [o_r2 hO, h_at hO P hb h0 (by omega), if_neg (show ¬ n ≤ p by omega), nrm_i (z := b p) (by omega) (by omega)]
  exact sgc_v σ
def adw (σ : Hp) (o : Nat) (c k f t w : Int) : Hp := wr (wr (wr (wr (wr σ (o + 5) c k) (o + 6) c f) (o + 7) c t) (o + 8) c w) (o + 2) 7 (c + 1)
def tkS (o x : Nat) : Prop := x = o + 2 ∨ (o + 5 ≤ x ∧ x < o + 9)
theorem adw_c (σ : Hp) (o : Nat) (c k f t w : Int) : chgH (tkS o) σ (adw σ o c k f t w) := (((((chgH.rf (tkS o) σ).wr (a := o + 5) (by unfold tkS; omega) _ _).wr (a := o + 6) (by unfold tkS; omega) _ _).wr (a := o + 7) (by unfold tkS; omega) _ _).wr (a := o + 8) (by unfold tkS; omega) _ _).wr (a := o + 2) (by unfold tkS; omega) _ _
theorem o_g23 (h : Osh σ o r) (f : Option Nat → Option β) : (gR σ 2 (some (o + 2)) 3).bind f = f (some (o + 5)) := by obtain ⟨-, -, ⟨g, h, -, -, h2, -⟩, -⟩ := h; exact obP (by rw [gR_s h, h2]) f
theorem o_g24 (h : Osh σ o r) (f : Option Nat → Option β) : (gR σ 2 (some (o + 2)) 4).bind f = f (some (o + 6)) := by obtain ⟨-, -, ⟨g, h, -, -, -, h2, -⟩, -⟩ := h; exact obP (by rw [gR_s h, h2]) f
theorem o_g25 (h : Osh σ o r) (f : Option Nat → Option β) : (gR σ 2 (some (o + 2)) 5).bind f = f (some (o + 7)) := by obtain ⟨-, -, ⟨g, h, -, -, -, -, h2, -⟩, -⟩ := h; exact obP (by rw [gR_s h, h2]) f
theorem o_g26 (h : Osh σ o r) (f : Option Nat → Option β) : (gR σ 2 (some (o + 2)) 6).bind f = f (some (o + 8)) := by obtain ⟨-, -, ⟨g, h, -, -, -, -, -, h2⟩, -⟩ := h; exact obP (by rw [gR_s h, h2]) f
theorem h_add (hO : Osh σ o r) {c : Int} (hc : ci σ (o + 2) 7 = c) (c0 : 0 ≤ c) (c1 : c < 2001) {k f t w : Int} (k0 : 0 ≤ k) (k1 : k ≤ 5) (f0 : 0 ≤ f) (f1 : f ≤ 2000) (t0 : 0 ≤ t) (t1 : t ≤ 2000) (w0 : -1 ≤ w) (w1 : w ≤ 2000) (g : Unit → Hp → Option β) : bn (f_X2_add σ (o + 2) k f t w) g = g () (adw σ o c k f t w) := by
  have d1 := (chgH.rf (tkS o) σ).wr (a := o + 5) (by unfold tkS; omega) c k
  have d2 := d1.wr (a := o + 6) (by unfold tkS; omega) c f
  have d3 := d2.wr (a := o + 7) (by unfold tkS; omega) c t
  have d4 := d3.wr (a := o + 8) (by unfold tkS; omega) c w
  have O1 := hO.chg d1
  have O2 := hO.chg d2
  have O3 := hO.chg d3
  have O4 := hO.chg d4
  have e1 : ci (wr σ (o + 5) c k) (o + 2) = ci σ (o + 2) := wr_cne _ _ _ (by omega)
  have e2 : ci (wr (wr σ (o + 5) c k) (o + 6) c f) (o + 2) = ci σ (o + 2) := by rw [wr_cne _ _ _ (by omega), e1]
  have e3 : ci (wr (wr (wr σ (o + 5) c k) (o + 6) c f) (o + 7) c t) (o + 2) = ci σ (o + 2) := by rw [wr_cne _ _ _ (by omega), e2]
  have e4 : ci (wr (wr (wr (wr σ (o + 5) c k) (o + 6) c f) (o + 7) c t) (o + 8) c w) (o + 2) = ci σ (o + 2) := by rw [wr_cne _ _ _ (by omega), e3]
  refine bnP ?_ g
  unfold f_X2_add
  rw [o_g23 hO, o_a2 hO, hc, i8_i (z := k) (by omega) (by omega), i8_i (z := k) (by omega) (by omega), o_w5 hO _ c0 c1, o_g24 O1, o_a2 O1, e1, hc, i16_j (z := f) (by omega) (by omega), i16_j (z := f) (by omega) (by omega), o_w6 O1 _ c0 c1, o_g25 O2, o_a2 O2, e2, hc, i16_j (z := t) (by omega) (by omega), i16_j (z := t) (by omega) (by omega), o_w7 O2 _ c0 c1, o_g26 O3, o_a2 O3, e3, hc, i16_j (z := w) (by omega) (by omega), i16_j (z := w) (by omega) (by omega), o_w8 O3 _ c0 c1, o_a2 O4, e4, hc, nrm_i (by omega) (by omega), o_w2 O4]
  rfl
theorem adw_T (hO : Osh σ o r) {c : Nat} (h : TkC σ o n b c) {k f t w : Int} (hf : f = tps n b c) (hk : k = cKd (tkK n b f)) (ht : f < n → t = tkE n b f) (hw : 20 ≤ tkK n b f → w = tkK n b f - 20) (hg : ltr n b f = false → dgt n b f = false → f < n → w = sgc (ub n b f)) : TkC (adw σ o c k f t w) o n b (c + 1) := by
  obtain ⟨g5, q5⟩ := o_s5 hO
  obtain ⟨g6, q6⟩ := o_s6 hO
  obtain ⟨g7, q7⟩ := o_s7 hO
  obtain ⟨g8, q8⟩ := o_s8 hO
  intro i hi
  unfold adw
  rw [wr_cne (b := o + 5) _ _ _ (by omega), wr_cne (b := o + 5) _ _ _ (by omega), wr_cne (b := o + 5) _ _ _ (by omega), wr_cne (b := o + 5) _ _ _ (by omega), wr_ci (h := q5),
    wr_cne (b := o + 6) _ _ _ (by omega), wr_cne (b := o + 6) _ _ _ (by omega), wr_cne (b := o + 6) _ _ _ (by omega), wr_ci (a := o + 6) (h := by rw [wr_shp]; exact q6), wr_cne (b := o + 6) _ _ _ (by omega),
    wr_cne (b := o + 7) _ _ _ (by omega), wr_cne (b := o + 7) _ _ _ (by omega), wr_ci (a := o + 7) (h := by rw [wr_shp, wr_shp]; exact q7), wr_cne (b := o + 7) _ _ _ (by omega), wr_cne (b := o + 7) _ _ _ (by omega),
    wr_cne (b := o + 8) _ _ _ (by omega), wr_ci (a := o + 8) (h := by rw [wr_shp, wr_shp, wr_shp]; exact q8), wr_cne (b := o + 8) _ _ _ (by omega), wr_cne (b := o + 8) _ _ _ (by omega), wr_cne (b := o + 8) _ _ _ (by omega)]
  by_cases e : i = c
  · subst e
    rw [fuE, fuE, fuE, fuE, ← hf]
    exact ⟨hk, rfl, ht, hw, hg⟩
  · have e2 : (i : Int) ≠ c := by omega
    rw [fuN _ _ e2, fuN _ _ e2, fuN _ _ e2, fuN _ _ e2]
    exact h i (by omega)
end

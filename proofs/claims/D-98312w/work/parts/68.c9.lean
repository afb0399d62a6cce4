set_option maxRecDepth 100000
section
variable {Z : Nat → Prop} {σ τ : Hp} {a c r : Nat} {X : Txt} {K : Crt} {q : Int}
theorem h_takes (ha : Csh σ a) (hc : Csh σ c) (hd : a + 47 ≤ c ∨ c + 47 ≤ a) (hK : Cat σ c X K) (hX : WfX X) (hW : WfK X K) : ∃ σ' : Hp, f_X5_takes σ a (some c) = some ((), σ') ∧ Cat σ' a X K ∧ chgH (crtS a) σ σ' := by
  have a1 := hX.2.2.1
  have a4 := hX.2.2.2.1
  have a2 := hW.1
  have w1 := (chgH.rf (crtS a) σ).wr (show crtS a a by unfold crtS; omega) 9 (kMi K)
  have w2 := w1.wr (show crtS a a by unfold crtS; omega) 10 (kSd K)
  have c1 := hc.same w1.2.1
  have b1 := ha.same w1.2.1
  have c2 := hc.same w2.2.1
  have b2 := ha.same w2.2.1
  have n2 : ∀ x : Nat, ¬ crtS a x → ci (wr (wr σ a 9 (kMi K)) a 10 (kSd K)) x = ci σ x := fun x hx => w2.num hx
  have hcc : ∀ x : Nat, x < 47 → ¬ crtS a (c + x) := fun x hx => by unfold crtS; omega
  have hc0 : ¬ crtS a c := hcc 0 (by decide)
  unfold f_X5_takes
  have e10 : ci (wr σ a 9 (kMi K)) c 10 = kSd K := by rw [w1.num hc0]; exact hK.1.2
  rw [c_g hc, obS, hK.1.1, c_p ha, obS, c_g c1, obS, e10, c_p b1, obS]
  obtain ⟨s3, e3, p3, d3⟩ := h_tk18 b2 c2 hd (mi := kMi K) (by rw [n2 c hc0]; exact hK.1.1) a2.1 a2.2 (fun s18 x1 => f_X5_takes_L78 a FU s18 x1 0 (fun s46 => some ((), s46)))
  rw [e3]
  have d3' : chgH (crtS a) σ s3 := w2.tr (d3.up fun x h => by unfold crtS; omega)
  obtain ⟨s4, e4, ⟨p4, p5⟩, d4⟩ := h_tk78 (ha.same d3'.2.1) (hc.same d3'.2.1) hd (mi := kMi K) (by rw [d3'.num hc0]; exact hK.1.1) a2.1 a2.2 (fun s46 => some ((), s46))
  rw [e4]
  have d4' : chgH (crtS a) σ s4 := d3'.tr (d4.up fun x h => by unfold crtS; omega)
  refine ⟨s4, rfl, ?_, d4'⟩
  have ea : ci s4 a = ci (wr (wr σ a 9 (kMi K)) a 10 (kSd K)) a := (d4.num (by omega)).trans (d3.num (by omega))
  have ea2 : ci (wr (wr σ a 9 (kMi K)) a 10 (kSd K)) a = fu (fu (ci σ a) 9 (kMi K)) 10 (kSd K) := by
    obtain ⟨⟨g, h1, -⟩, -⟩ := ha
    rw [wr_ci (h := by rw [wr_shp]; exact h1), wr_ci (h := h1)]
  have k1 : ∀ (o : Nat) (m : Int), 0 ≤ m → m < 8 → o < 39 → ci (wr (wr σ a 9 (kMi K)) a 10 (kSd K)) (c + o + m.toNat) = ci σ (c + o + m.toNat) := fun o m m0 m1 ho => n2 _ (by unfold crtS; omega)
  have k2 : ∀ (o : Nat) (m : Int), 0 ≤ m → m < 8 → o < 39 → ci s3 (c + o + m.toNat) = ci σ (c + o + m.toNat) := fun o m m0 m1 ho => d3'.num (by unfold crtS; omega)
  refine ⟨⟨by rw [ea, ea2, fuN _ _ (by decide), fuE], by rw [ea, ea2, fuE]⟩, fun m t b0 b1 b2 b3 => ?_, fun k t b0 b1 b2 b3 => ?_, fun k b0 b1 => ?_⟩
  · rw [d4.num (by omega), d4.num (by omega), (p3 m t b0 (by omega) b2 b3).1, (p3 m t b0 (by omega) b2 b3).2, k1 2 m b0 (by omega) (by omega), k1 9 m b0 (by omega) (by omega)]
    exact hK.2.1 m t b0 b1 b2 b3
  · have h := p4 k t b0 (by omega) b2 b3
    rw [h.1, h.2.1, h.2.2, k2 16 k b0 (by omega) (by omega), k2 25 k b0 (by omega) (by omega), k2 34 k b0 (by omega) (by omega)]
    exact hK.2.2.1 k t b0 b1 b2 b3
  · have h := p5 k b0 (by omega)
    rw [h.1, h.2, d3'.num (hcc 42 (by decide)), d3'.num (hcc 43 (by decide))]
    exact hK.2.2.2 k b0 b1
/-- a court begins -/
def bg0 (X : Txt) : Crt := ((0, xS X), (fun m _ => xRm X m, fun m _ => xRk X m, fun k _ => xHg X k, fun _ _ => 0, fun _ _ => 0), (fun _ => 300, fun _ => -2))
theorem bg0_wf (hX : WfX X) : WfQ (kMi (bg0 X) - 1) X (bg0 X) := by
  refine ⟨⟨show (0 : Int) ≤ 0 by decide, show (0 : Int) ≤ 299 by decide⟩, fun m t b0 b1 b2 b3 => ?_, fun k t b0 b1 b2 b3 => ⟨(hX.2.2.2.2.2.2.2.2 k b0 b1).1, Or.inl rfl, fun _ => ⟨Int.le_refl _, show (0 : Int) ≤ 240 by decide⟩⟩, fun k b0 b1 => ⟨Or.inl rfl, Or.inl rfl⟩⟩
  have := hX.2.2.2.2.2.2.2.1 m b0 b1
  exact ⟨this.2, this.1⟩
theorem h_bg15 (hc : Csh σ a) (hx : TxtAt Z σ r X) (hZ : ∀ o : Nat, o < 47 → ¬ Z (a + o)) (hX : WfX X) (kk : Hp → Option Nat → Option (Unit × Hp)) :
    ∃ σ' : Hp, f_X5_begins_L15 a FU σ (some r) 0 kk = kk σ' (some r) ∧ (∀ m : Int, 0 ≤ m → m < xM X → ci σ' (a + 2 + m.toNat) 0 = xRm X m ∧ ci σ' (a + 9 + m.toNat) 0 = xRk X m) ∧ chgH (fun x => a + 2 ≤ x ∧ x < a + 15) σ σ' := by
  have a0 := hX.1
  have a1 := hX.2.2.1
  refine loop (S := Hp × Int) (fun n z => f_X5_begins_L15 a n z.1 (some r) z.2 kk) (fun o => ∃ σ' : Hp, o = kk σ' (some r) ∧ (∀ m : Int, 0 ≤ m → m < xM X → ci σ' (a + 2 + m.toNat) 0 = xRm X m ∧ ci σ' (a + 9 + m.toNat) 0 = xRk X m) ∧ chgH (fun x => a + 2 ≤ x ∧ x < a + 15) σ σ')
    (fun i z => z.2 = (i : Int) ∧ (∀ m : Int, 0 ≤ m → m < i → ci z.1 (a + 2 + m.toNat) 0 = xRm X m ∧ ci z.1 (a + 9 + m.toNat) 0 = xRk X m) ∧ chgH (fun x => a + 2 ≤ x ∧ x < a + 15) σ z.1) (xM X).toNat ?_ ?_ (xM X).toNat 0 FU (σ, 0) (by omega) (by rw [FU_eq]; omega) ⟨rfl, fun _ _ h => by omega, chgH.rf _ _⟩
  · rintro n i ⟨z, b⟩ hi ⟨rfl, hz, hcz⟩
    dsimp only at hz hcz ⊢
    have hx2 : ∀ τ : Hp, chgH (fun x => a + 2 ≤ x ∧ x < a + 15) σ τ → TxtAt Z τ r X := fun τ e => hx.same (agr_chg e fun x hz h => hz_x hZ x hz (by unfold crtS; omega))
    have zc := hc.same hcz.2.1
    have hw := hX.2.2.2.2.2.2.2.1 i (by omega) (by omega)
    have w1 := hcz.wr (show a + 2 ≤ a + 2 + (i : Int).toNat ∧ a + 2 + (i : Int).toNat < a + 15 by omega) 0 (xRm X i)
    have w2 := w1.wr (show a + 2 ≤ a + 9 + (i : Int).toNat ∧ a + 9 + (i : Int).toNat < a + 15 by omega) 0 (xRk X i)
    have yc := hc.same w1.2.1
    obtain ⟨bm, em, m1, m2, m3⟩ := x_men (hx2 _ hcz)
    obtain ⟨-, gm, n1, n2, n3, -⟩ := m3 i (by omega) (by omega)
    obtain ⟨bm', em', m1', m2', m3'⟩ := x_men (hx2 _ w1)
    obtain ⟨-, gm', n1', n2', n3', -⟩ := m3' i (by omega) (by omega)
    obtain ⟨ga0, sa0⟩ : ∃ g, shp z (a + 2 + (i : Int).toNat) = some (101, 300, g) := by obtain ⟨-, ⟨-, f⟩, -⟩ := zc; exact f i (by omega) (by omega)
    obtain ⟨ga1, sa1⟩ : ∃ g, shp (wr z (a + 2 + (i : Int).toNat) 0 (xRm X i)) (a + 9 + (i : Int).toNat) = some (101, 300, g) := by obtain ⟨-, -, ⟨-, f⟩, -⟩ := yc; exact f i (by omega) (by omega)
    right
    refine ⟨(wr (wr z (a + 2 + (i : Int).toNat) 0 (xRm X i)) (a + 9 + (i : Int).toNat) 0 (xRk X i), ((i + 1 : Nat) : Int)), ?_, rfl, ?_, w2⟩
    · rw [f_X5_begins_L15]
      simp (disch := omega) only [↓reduceIte, Bool.false_eq_true, nrm_i, ltT, ltF, leT, leF, eqT, eqF, not_true_eq_false, not_false_eq_true, and_self, and_true, true_and, false_and, and_false, or_true, true_or, or_false, false_or, ↓btS, ↓bnS, ↓bdS, ↓jnS, ↓obS, ↓obP m1, ↓l_rcvb m2, ↓l_sizeb m2, ↓l_getb m2, ↓kst_1 n1, ↓gI_b n1, n3, i8_i, ↓c_g0b zc, ↓c_r0b zc, ↓c_s0b zc, ↓c_g1b yc, ↓c_r1b yc, ↓obP m1', ↓l_rcvb m2', ↓l_getb m2', ↓kst_1 n1', ↓gI_b n1', n2', ↓c_s1b yc]
      rfl
    · intro m k0 k1
      dsimp only
      by_cases e : m = i
      · subst e
        rw [wr_ci (h := sa1), wr_cne _ _ _ (by omega), wr_ci (h := sa0), fuE, fuE]
        exact ⟨rfl, rfl⟩
      · rw [wr_cne _ _ _ (by omega), wr_cne _ _ _ (by omega), wr_cne _ _ _ (by omega), wr_cne _ _ _ (by omega)]
        exact hz m k0 (by omega)
  · rintro n ⟨z, b⟩ ⟨rfl, hz, hcz⟩
    dsimp only at hz hcz ⊢
    obtain ⟨bm, em, m1, m2, m3⟩ := x_men (hx.same (agr_chg hcz fun x hz h => hz_x hZ x hz (by unfold crtS; omega)))
    refine ⟨z, ?_, fun m k0 k1 => hz m k0 (by omega), hcz⟩
    rw [f_X5_begins_L15]
    simp (disch := omega) only [↓reduceIte, Bool.false_eq_true, nrm_i, ltT, ltF, leT, leF, eqT, eqF, not_true_eq_false, not_false_eq_true, and_self, and_true, true_and, false_and, and_false, or_true, true_or, or_false, false_or, ↓btS, ↓bnS, ↓bdS, ↓jnS, ↓obS, ↓obP m1, ↓l_rcvb m2, ↓l_sizeb m2]
theorem h_bg80 (hc : Csh σ a) (hx : TxtAt Z σ r X) (hZ : ∀ o : Nat, o < 47 → ¬ Z (a + o)) (hX : WfX X) (kk : Hp → Option Nat → Option (Unit × Hp)) :
    ∃ σ' : Hp, f_X5_begins_L80 a FU σ (some r) 0 kk = kk σ' (some r) ∧ (∀ m : Int, 0 ≤ m → m < xK X → (ci σ' (a + 16 + m.toNat) 0 = xHg X m ∧ ci σ' (a + 25 + m.toNat) 0 = 0) ∧ ci σ' (a + 42) m = 300 ∧ ci σ' (a + 43) m = -2) ∧ chgH (fun x => a + 16 ≤ x ∧ x < a + 44) σ σ' := by
  have a0 := hX.1
  have a1 := hX.2.2.2.1
  refine loop (S := Hp × Int) (fun n z => f_X5_begins_L80 a n z.1 (some r) z.2 kk) (fun o => ∃ σ' : Hp, o = kk σ' (some r) ∧ (∀ m : Int, 0 ≤ m → m < xK X → (ci σ' (a + 16 + m.toNat) 0 = xHg X m ∧ ci σ' (a + 25 + m.toNat) 0 = 0) ∧ ci σ' (a + 42) m = 300 ∧ ci σ' (a + 43) m = -2) ∧ chgH (fun x => a + 16 ≤ x ∧ x < a + 44) σ σ')
    (fun i z => z.2 = (i : Int) ∧ (∀ m : Int, 0 ≤ m → m < i → (ci z.1 (a + 16 + m.toNat) 0 = xHg X m ∧ ci z.1 (a + 25 + m.toNat) 0 = 0) ∧ ci z.1 (a + 42) m = 300 ∧ ci z.1 (a + 43) m = -2) ∧ chgH (fun x => a + 16 ≤ x ∧ x < a + 44) σ z.1) (xK X).toNat ?_ ?_ (xK X).toNat 0 FU (σ, 0) (by omega) (by rw [FU_eq]; omega) ⟨rfl, fun _ _ h => by omega, chgH.rf _ _⟩
  · rintro n i ⟨z, b⟩ hi ⟨rfl, hz, hcz⟩
    dsimp only at hz hcz ⊢
    have zc := hc.same hcz.2.1
    have hw := hX.2.2.2.2.2.2.2.2 i (by omega) (by omega)
    have w1 := hcz.wr (show a + 16 ≤ a + 16 + (i : Int).toNat ∧ a + 16 + (i : Int).toNat < a + 44 by omega) 0 (xHg X i)
    have w2 := w1.wr (show a + 16 ≤ a + 25 + (i : Int).toNat ∧ a + 25 + (i : Int).toNat < a + 44 by omega) 0 0
    have w3 := w2.wr (show a + 16 ≤ a + 42 ∧ a + 42 < a + 44 by omega) i 300
    have w4 := w3.wr (show a + 16 ≤ a + 43 ∧ a + 43 < a + 44 by omega) i (-2)
    have y1 := hc.same w1.2.1
    have y2 := hc.same w2.2.1
    have y3 := hc.same w3.2.1
    obtain ⟨bm, em, m1, m2, m3⟩ := x_mirrors (hx.same (agr_chg hcz fun x hz h => hz_x hZ x hz (by unfold crtS; omega)))
    obtain ⟨-, gm, n1, n2, n3⟩ := m3 i (by omega) (by omega)
    obtain ⟨ga0, sa0⟩ : ∃ g, shp z (a + 16 + (i : Int).toNat) = some (101, 300, g) := by obtain ⟨-, -, -, ⟨-, f⟩, -⟩ := zc; exact f i (by omega) (by omega)
    obtain ⟨ga1, sa1⟩ : ∃ g, shp (wr z (a + 16 + (i : Int).toNat) 0 (xHg X i)) (a + 25 + (i : Int).toNat) = some (102, 300, g) := by obtain ⟨-, -, -, -, ⟨-, f⟩, -⟩ := y1; exact f i (by omega) (by omega)
    obtain ⟨ga2, sa2⟩ : ∃ g, shp (wr (wr z (a + 16 + (i : Int).toNat) 0 (xHg X i)) (a + 25 + (i : Int).toNat) 0 0) (a + 42) = some (100, 8, g) := by obtain ⟨-, -, -, -, -, -, f, -⟩ := y2; exact f
    obtain ⟨ga3, sa3⟩ : ∃ g, shp (wr (wr (wr z (a + 16 + (i : Int).toNat) 0 (xHg X i)) (a + 25 + (i : Int).toNat) 0 0) (a + 42) i 300) (a + 43) = some (100, 8, g) := by obtain ⟨-, -, -, -, -, -, -, f, -⟩ := y3; exact f
    right
    refine ⟨(wr (wr (wr (wr z (a + 16 + (i : Int).toNat) 0 (xHg X i)) (a + 25 + (i : Int).toNat) 0 0) (a + 42) i 300) (a + 43) i (-2), ((i + 1 : Nat) : Int)), ?_, rfl, ?_, w4⟩
    · rw [f_X5_begins_L80]
      simp (disch := omega) only [↓reduceIte, Bool.false_eq_true, nrm_i, ltT, ltF, leT, leF, eqT, eqF, not_true_eq_false, not_false_eq_true, and_self, and_true, true_and, false_and, and_false, or_true, true_or, or_false, false_or, ↓btS, ↓bnS, ↓bdS, ↓jnS, ↓obS, ↓obP m1, ↓l_rcvb m2, ↓l_sizeb m2, ↓l_getb m2, ↓kst_1 n1, ↓gI_b n1, n2, i8_i, b1_0, ↓c_g2b zc, ↓c_r2b zc, ↓c_s2b zc, ↓c_g3b y1, ↓c_r3b y1, ↓c_s3b y1, ↓c_g5b y2, ↓c_sbb y2, ↓c_g6b y3, ↓c_sfb y3]
      rfl
    · intro m k0 k1
      dsimp only
      rw [wr_ci (h := sa3), wr_cne (b := a + 42) _ _ _ (by omega), wr_ci (h := sa2), wr_cne (b := a + 43) _ _ _ (by omega), wr_cne (b := a + 43) _ _ _ (by omega), wr_cne (b := a + 43) _ _ _ (by omega), wr_cne (b := a + 42) _ _ _ (by omega), wr_cne (b := a + 42) _ _ _ (by omega)]
      by_cases e : m = i
      · subst e
        rw [fuE, fuE, wr_cne (b := a + 16 + (i : Int).toNat) _ _ _ (by omega), wr_cne (b := a + 16 + (i : Int).toNat) _ _ _ (by omega), wr_cne (b := a + 16 + (i : Int).toNat) _ _ _ (by omega), wr_cne (b := a + 25 + (i : Int).toNat) _ _ _ (by omega), wr_cne (b := a + 25 + (i : Int).toNat) _ _ _ (by omega), wr_ci (h := sa1), wr_ci (h := sa0), fuE, fuE]
        exact ⟨⟨rfl, rfl⟩, rfl, rfl⟩
      · have nn : ∀ o : Nat, o ≠ a + 16 + (i : Int).toNat → o ≠ a + 25 + (i : Int).toNat → o ≠ a + 42 → o ≠ a + 43 → ci (wr (wr (wr (wr z (a + 16 + (i : Int).toNat) 0 (xHg X i)) (a + 25 + (i : Int).toNat) 0 0) (a + 42) i 300) (a + 43) i (-2)) o = ci z o := fun o h1 h2 h3 h4 => by rw [wr_cne _ _ _ h4, wr_cne _ _ _ h3, wr_cne _ _ _ h2, wr_cne _ _ _ h1]
        rw [nn _ (by omega) (by omega) (by omega) (by omega), nn _ (by omega) (by omega) (by omega) (by omega), fuN _ _ e, fuN _ _ e]
        exact hz m k0 (by omega)
  · rintro n ⟨z, b⟩ ⟨rfl, hz, hcz⟩
    dsimp only at hz hcz ⊢
    obtain ⟨bm, em, m1, m2, m3⟩ := x_mirrors (hx.same (agr_chg hcz fun x hz h => hz_x hZ x hz (by unfold crtS; omega)))
    refine ⟨z, ?_, fun m k0 k1 => hz m k0 (by omega), hcz⟩
    rw [f_X5_begins_L80]
    simp (disch := omega) only [↓reduceIte, Bool.false_eq_true, nrm_i, ltT, ltF, leT, leF, eqT, eqF, not_true_eq_false, not_false_eq_true, and_self, and_true, true_and, false_and, and_false, or_true, true_or, or_false, false_or, ↓btS, ↓bnS, ↓bdS, ↓jnS, ↓obS, ↓obP m1, ↓l_rcvb m2, ↓l_sizeb m2]
theorem h_begins (hc : Csh σ a) (hx : TxtAt Z σ r X) (hZ : ∀ o : Nat, o < 47 → ¬ Z (a + o)) (hX : WfX X) : ∃ σ' : Hp, f_X5_begins σ a (some r) = some ((), σ') ∧ Cat σ' a X (lks X (bg0 X)) ∧ chgH (crtS a) σ σ' := by
  have a0 := hX.1
  have a1 := hX.2.2.1
  have a4 := hX.2.2.2.1
  have ag : ∀ τ : Hp, chgH (crtS a) σ τ → TxtAt Z τ r X := fun τ e => hx.same (agr_chg e (hz_x hZ))
  have w1 := (chgH.rf (crtS a) σ).wr (show crtS a a by unfold crtS; omega) 9 0
  have w2 := w1.wr (show crtS a a by unfold crtS; omega) 10 (xS X)
  have c1 := hc.same w1.2.1
  have c2 := hc.same w2.2.1
  unfold f_X5_begins
  rw [c_p hc, obS, (x_breaks (ag _ w1)).2.2, obS, c_p c1, obS]
  obtain ⟨s3, e3, p3, d3⟩ := h_bg15 c2 (ag _ w2) hZ hX (fun s27 x1 => f_X5_begins_L80 a FU s27 x1 0 (fun s49 x1 => (rcv s49 5 (some a)).bind fun b51 => bn (f_X5_looks s49 b51 x1) fun _ s50 => some ((), s50)))
  rw [e3]
  have d3' : chgH (crtS a) σ s3 := w2.tr (d3.up fun x h => by unfold crtS; omega)
  obtain ⟨s4, e4, p4, d4⟩ := h_bg80 (hc.same d3'.2.1) (ag _ d3') hZ hX (fun s49 x1 => (rcv s49 5 (some a)).bind fun b51 => bn (f_X5_looks s49 b51 x1) fun _ s50 => some ((), s50))
  rw [e4]
  have d4' : chgH (crtS a) σ s4 := d3'.tr (d4.up fun x h => by unfold crtS; omega)
  have c4 := hc.same d4'.2.1
  have ea : ci s4 a = ci (wr (wr σ a 9 0) a 10 (xS X)) a := (d4.num (by omega)).trans (d3.num (by omega))
  have ea2 : ci (wr (wr σ a 9 0) a 10 (xS X)) a = fu (fu (ci σ a) 9 0) 10 (xS X) := by
    obtain ⟨⟨g, h1, -⟩, -⟩ := hc
    rw [wr_ci (h := by rw [wr_shp]; exact h1), wr_ci (h := h1)]
  have hK : CatQ (kMi (bg0 X) - 1) s4 a X (bg0 X) := by
    refine ⟨⟨by rw [ea, ea2, fuN _ _ (by decide), fuE]; rfl, by rw [ea, ea2, fuE]; rfl⟩, fun m t b0 b1 b2 b3 => ?_, fun k t b0 b1 b2 b3 => ?_, fun k b0 b1 => (p4 k b0 b1).2⟩
    · have e : t = 0 := by have b3 : t ≤ 0 := b3; omega
      subst e
      rw [d4.num (by omega), d4.num (by omega)]
      exact p3 m b0 b1
    · have e : t = 0 := by have b3 : t ≤ 0 := b3; omega
      subst e
      exact ⟨(p4 k b0 b1).1.1, (p4 k b0 b1).1.2, fun h => by have h : (0 : Int) ≤ 0 - 1 := h; omega⟩
  obtain ⟨s5, e5, r5, d5⟩ := h_looks c4 (ag _ d4') hZ hK hX (bg0_wf hX)
  rw [c_o c4, obS, e5, bnS]
  exact ⟨s5, rfl, r5, d4'.tr d5⟩
end

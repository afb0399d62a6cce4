set_option maxRecDepth 100000
/-! ===== PURE: a minute goes by (component), on ===== -/
section
variable {Z : Nat → Prop} {σ τ : Hp} {a r : Nat} {X : Txt} {K : Crt} {q : Int}
theorem i8_r {z : Int} (h : 0 ≤ z) (h2 : z ≤ 20) : i8I z = z := i8_i (by omega) (by omega)
/-- where each man goes is noted -/
theorem h_gb9 (hc : Csh σ a) (hx : TxtAt Z σ r X) (hZ : ∀ o : Nat, o < 47 → ¬ Z (a + o)) (hK : Cat σ a X K) (hX : WfX X) (hW : WfK X K) (x2 : Int) (kk : Hp → Option Nat → Int → Option (Unit × Hp)) :
    ∃ σ' : Hp, f_X5_goesBy_L9 a FU σ (some r) x2 0 kk = kk σ' (some r) x2 ∧ (∀ m : Int, 0 ≤ m → m < xM X → ci σ' (a + 44) m = gto X K m) ∧ chgH (fun x => x = a + 44 ∨ x = a + 45 ∨ x = a + 46) σ σ' := by
  have a1 := hX.2.2.1
  have a0 := hX.1
  refine loop (S := Hp × Int) (fun n z => f_X5_goesBy_L9 a n z.1 (some r) x2 z.2 kk) (fun o => ∃ σ' : Hp, o = kk σ' (some r) x2 ∧ (∀ m : Int, 0 ≤ m → m < xM X → ci σ' (a + 44) m = gto X K m) ∧ chgH (fun x => x = a + 44 ∨ x = a + 45 ∨ x = a + 46) σ σ')
    (fun i z => z.2 = (i : Int) ∧ (∀ m : Int, 0 ≤ m → m < i → ci z.1 (a + 44) m = gto X K m) ∧ chgH (fun x => x = a + 44 ∨ x = a + 45 ∨ x = a + 46) σ z.1) (xM X).toNat ?_ ?_ (xM X).toNat 0 FU (σ, 0) (by omega) (by rw [FU_eq]; omega) ⟨rfl, fun _ _ h => by omega, chgH.rf _ _⟩
  · rintro n i ⟨z, b⟩ hi ⟨rfl, hz, hcz⟩
    dsimp only at hz hcz ⊢
    have hcc := hc.same hcz.2.1
    have hxx := hx.same (agr_chg hcz (fun x hxz h => by
      rcases h with h | h | h
      · rw [h] at hxz; exact hZ 44 (by decide) hxz
      · rw [h] at hxz; exact hZ 45 (by decide) hxz
      · rw [h] at hxz; exact hZ 46 (by decide) hxz))
    have hKz := CatQ.same hK hcz (fun o ho h => by omega) hX
    obtain ⟨bm, em, m1, m2, m3⟩ := x_men hxx
    obtain ⟨s1, e1, c1⟩ := h_goes (m := i) hcc hxx hZ hKz hX hW (by omega) (by omega)
    have hc1 := hcc.same c1.2.1
    right
    refine ⟨(wr s1 (a + 44) i (gto X K i), ((i + 1 : Nat) : Int)), ?_, rfl, ?_, (hcz.tr (c1.up fun x h => Or.inr h)).wr (Or.inl rfl) _ _⟩
    · rw [f_X5_goesBy_L9, m1, obS, l_rcv m2, obS, l_size m2, bnS, nrm_i (z := xM X) (by omega) (by omega), nrm_i (z := (i : Int)) (by omega) (by omega), if_neg (by omega), c_g7 hcc, obS, c_o hcc, obS, e1, bnS, c_sto hc1 _ (by omega) (by omega), obS]
      rfl
    · intro m k0 k1
      obtain ⟨-, -, -, -, -, -, -, -, ⟨g44, e44⟩, -⟩ := hc1
      show ci (wr s1 _ _ _) _ _ = _
      rw [wr_ci (h := e44)]
      by_cases e : m = i
      · rw [e, fuE]
      · rw [fuN _ _ e, c1.num (by unfold askS; omega)]
        exact hz m k0 (by omega)
  · rintro n ⟨z, b⟩ ⟨rfl, hz, hcz⟩
    dsimp only at hz hcz ⊢
    have hxx := hx.same (agr_chg hcz (fun x hxz h => by
      rcases h with h | h | h
      · rw [h] at hxz; exact hZ 44 (by decide) hxz
      · rw [h] at hxz; exact hZ 45 (by decide) hxz
      · rw [h] at hxz; exact hZ 46 (by decide) hxz))
    obtain ⟨bm, em, m1, m2, m3⟩ := x_men hxx
    refine ⟨z, ?_, fun m k0 k1 => hz m k0 (by omega), hcz⟩
    rw [f_X5_goesBy_L9, m1, obS, l_rcv m2, obS, l_size m2, bnS, nrm_i (z := xM X) (by omega) (by omega), nrm_i (by omega) (by omega), if_pos (by omega)]
/-- men stand where they went -/
theorem h_gb40 (hc : Csh σ a) (hx : TxtAt Z σ r X) (hZ : ∀ o : Nat, o < 47 → ¬ Z (a + o)) (hX : WfX X) {mi : Int} (hmi : ci σ a 9 = mi) (m0 : 0 ≤ mi) (m1 : mi < 299) (G : Int → Int) (hG : ∀ m : Int, 0 ≤ m → m < xM X → ci σ (a + 44) m = G m ∧ 0 ≤ G m ∧ G m < 8) (hR : ∀ m : Int, 0 ≤ m → m < xM X → 0 ≤ ci σ (a + 9 + m.toNat) mi ∧ ci σ (a + 9 + m.toNat) mi ≤ 20) (kk : Hp → Option Nat → Int → Option (Unit × Hp)) :
    ∃ σ' : Hp, f_X5_goesBy_L40 a FU σ (some r) (mi + 1) 0 kk = kk σ' (some r) (mi + 1) ∧ (∀ m : Int, 0 ≤ m → m < xM X → ci σ' (a + 2 + m.toNat) = fu (ci σ (a + 2 + m.toNat)) (mi + 1) (G m) ∧ ci σ' (a + 9 + m.toNat) = fu (ci σ (a + 9 + m.toNat)) (mi + 1) (ci σ (a + 9 + m.toNat) mi)) ∧ chgH (fun x => a + 2 ≤ x ∧ x < a + 15) σ σ' := by
  have a1 := hX.2.2.1
  refine loop (S := Hp × Int) (fun n z => f_X5_goesBy_L40 a n z.1 (some r) (mi + 1) z.2 kk) (fun o => ∃ σ' : Hp, o = kk σ' (some r) (mi + 1) ∧ (∀ m : Int, 0 ≤ m → m < xM X → ci σ' (a + 2 + m.toNat) = fu (ci σ (a + 2 + m.toNat)) (mi + 1) (G m) ∧ ci σ' (a + 9 + m.toNat) = fu (ci σ (a + 9 + m.toNat)) (mi + 1) (ci σ (a + 9 + m.toNat) mi)) ∧ chgH (fun x => a + 2 ≤ x ∧ x < a + 15) σ σ')
    (fun i z => z.2 = (i : Int) ∧ ((∀ m : Int, 0 ≤ m → m < i → ci z.1 (a + 2 + m.toNat) = fu (ci σ (a + 2 + m.toNat)) (mi + 1) (G m) ∧ ci z.1 (a + 9 + m.toNat) = fu (ci σ (a + 9 + m.toNat)) (mi + 1) (ci σ (a + 9 + m.toNat) mi)) ∧ ∀ m : Int, (i : Int) ≤ m → m < 6 → ci z.1 (a + 2 + m.toNat) = ci σ (a + 2 + m.toNat) ∧ ci z.1 (a + 9 + m.toNat) = ci σ (a + 9 + m.toNat)) ∧ chgH (fun x => a + 2 ≤ x ∧ x < a + 15) σ z.1) (xM X).toNat ?_ ?_ (xM X).toNat 0 FU (σ, 0) (by omega) (by rw [FU_eq]; omega) ⟨rfl, ⟨fun _ _ h => by omega, fun _ _ _ => ⟨rfl, rfl⟩⟩, chgH.rf _ _⟩
  · rintro n i ⟨z, b⟩ hi ⟨rfl, ⟨hz, hzo⟩, hcz⟩
    dsimp only at hz hzo hcz ⊢
    have hcc := hc.same hcz.2.1
    have hxx := hx.same (agr_chg hcz (fun x hxz h => by
      have := hZ (x - a) (by omega)
      rw [show a + (x - a) = x by omega] at this
      exact this hxz))
    obtain ⟨bm, em, k1, k2, k3⟩ := x_men hxx
    have e44 : ci z (a + 44) = ci σ (a + 44) := hcz.num (by omega)
    have e9 : ci z a = ci σ a := hcz.num (by omega)
    have hg := hG i (by omega) (by omega)
    have hr := hR i (by omega) (by omega)
    have zi := hzo i (Int.le_refl _) (by omega)
    have w1 := (chgH.rf (fun x => a + 2 ≤ x ∧ x < a + 15) z).wr (show a + 2 ≤ a + 2 + (i : Int).toNat ∧ a + 2 + (i : Int).toNat < a + 15 by omega) (mi + 1) (G i)
    have c1 := hcc.same w1.2.1
    have m9 : gI (wr z (a + 2 + (i : Int).toNat) (mi + 1) (G i)) 5 (some a) 9 = some mi := by rw [c_g c1, wr_cne _ _ _ (by omega), e9, hmi]
    right
    refine ⟨(wr (wr z (a + 2 + (i : Int).toNat) (mi + 1) (G i)) (a + 9 + (i : Int).toNat) (mi + 1) (ci σ (a + 9 + (i : Int).toNat) mi), ((i + 1 : Nat) : Int)), ?_, rfl, ⟨?_, ?_⟩, hcz.tr (w1.wr (by omega) _ _)⟩
    · rw [f_X5_goesBy_L40, k1, obS, l_rcv k2, obS, l_size k2, bnS, nrm_i (z := xM X) (by omega) (by omega), nrm_i (z := (i : Int)) (by omega) (by omega), if_neg (by omega), c_g0 hcc, obS, c_r0 hcc (by omega) (by omega), obS, c_g7 hcc, obS, c_to hcc (by omega) (by omega), obS, e44, hg.1, i8_r hg.2.1 (by omega), i8_r hg.2.1 (by omega), c_s0 hcc _ (by omega) (by omega) (by omega) (by omega), obS, c_g1 c1, obS, c_r1 c1 (by omega) (by omega), obS, obS, c_r1 c1 (by omega) (by omega), obS, m9, obS, c_a1 c1 (by omega) (by omega) (by omega) (by omega), obS, wr_cne _ _ _ (by omega), zi.2, i8_r hr.1 hr.2, c_s1 c1 _ (by omega) (by omega) (by omega) (by omega), obS]
      rfl
    · intro m k0 k1'
      by_cases e : m = i
      · subst e
        obtain ⟨-, ⟨-, f0⟩, ⟨-, f1⟩, -⟩ := hcc
        obtain ⟨g0, s0⟩ := f0 i (by omega) (by omega)
        obtain ⟨g1, s1⟩ := f1 i (by omega) (by omega)
        refine ⟨?_, ?_⟩
        · show ci (wr _ _ _ _) _ = _
          rw [wr_cne _ _ _ (by omega), wr_ci (h := s0), zi.1]
        · show ci (wr _ _ _ _) _ = _
          rw [wr_ci (h := by rw [wr_shp]; exact s1), wr_cne _ _ _ (by omega), zi.2]
      · have := hz m k0 (by omega)
        refine ⟨?_, ?_⟩
        · show ci (wr _ _ _ _) _ = _
          rw [wr_cne _ _ _ (by omega), wr_cne _ _ _ (by omega)]
          exact this.1
        · show ci (wr _ _ _ _) _ = _
          rw [wr_cne _ _ _ (by omega), wr_cne _ _ _ (by omega)]
          exact this.2
    · intro m k0 k1'
      have := hzo m (by omega) k1'
      refine ⟨?_, ?_⟩
      · show ci (wr _ _ _ _) _ = _
        rw [wr_cne _ _ _ (by omega), wr_cne _ _ _ (by omega)]
        exact this.1
      · show ci (wr _ _ _ _) _ = _
        rw [wr_cne _ _ _ (by omega), wr_cne _ _ _ (by omega)]
        exact this.2
  · rintro n ⟨z, b⟩ ⟨rfl, ⟨hz, hzo⟩, hcz⟩
    dsimp only at hz hzo hcz ⊢
    have hxx := hx.same (agr_chg hcz (fun x hxz h => by
      have := hZ (x - a) (by omega)
      rw [show a + (x - a) = x by omega] at this
      exact this hxz))
    obtain ⟨bm, em, k1, k2, k3⟩ := x_men hxx
    refine ⟨z, ?_, fun m k0 k1' => hz m k0 (by omega), hcz⟩
    rw [f_X5_goesBy_L40, k1, obS, l_rcv k2, obS, l_size k2, bnS, nrm_i (z := xM X) (by omega) (by omega), nrm_i (by omega) (by omega), if_pos (by omega)]
/-- mirrors hang on -/
theorem h_gb93 (hc : Csh σ a) (hx : TxtAt Z σ r X) (hZ : ∀ o : Nat, o < 47 → ¬ Z (a + o)) (hX : WfX X) {mi : Int} (hmi : ci σ a 9 = mi) (m0 : 0 ≤ mi) (m1 : mi < 299) (hR : ∀ m : Int, 0 ≤ m → m < xK X → (0 ≤ ci σ (a + 16 + m.toNat) mi ∧ ci σ (a + 16 + m.toNat) mi < 8) ∧ (ci σ (a + 25 + m.toNat) mi = 0 ∨ ci σ (a + 25 + m.toNat) mi = 1)) (kk : Hp → Option Nat → Int → Option (Unit × Hp)) :
    ∃ σ' : Hp, f_X5_goesBy_L93 a FU σ (some r) (mi + 1) 0 kk = kk σ' (some r) (mi + 1) ∧ (∀ m : Int, 0 ≤ m → m < xK X → ci σ' (a + 16 + m.toNat) = fu (ci σ (a + 16 + m.toNat)) (mi + 1) (ci σ (a + 16 + m.toNat) mi) ∧ ci σ' (a + 25 + m.toNat) = fu (ci σ (a + 25 + m.toNat)) (mi + 1) (ci σ (a + 25 + m.toNat) mi)) ∧ chgH (fun x => a + 16 ≤ x ∧ x < a + 33) σ σ' := by
  have a1 := hX.2.2.2.1
  refine loop (S := Hp × Int) (fun n z => f_X5_goesBy_L93 a n z.1 (some r) (mi + 1) z.2 kk) (fun o => ∃ σ' : Hp, o = kk σ' (some r) (mi + 1) ∧ (∀ m : Int, 0 ≤ m → m < xK X → ci σ' (a + 16 + m.toNat) = fu (ci σ (a + 16 + m.toNat)) (mi + 1) (ci σ (a + 16 + m.toNat) mi) ∧ ci σ' (a + 25 + m.toNat) = fu (ci σ (a + 25 + m.toNat)) (mi + 1) (ci σ (a + 25 + m.toNat) mi)) ∧ chgH (fun x => a + 16 ≤ x ∧ x < a + 33) σ σ')
    (fun i z => z.2 = (i : Int) ∧ ((∀ m : Int, 0 ≤ m → m < i → ci z.1 (a + 16 + m.toNat) = fu (ci σ (a + 16 + m.toNat)) (mi + 1) (ci σ (a + 16 + m.toNat) mi) ∧ ci z.1 (a + 25 + m.toNat) = fu (ci σ (a + 25 + m.toNat)) (mi + 1) (ci σ (a + 25 + m.toNat) mi)) ∧ ∀ m : Int, (i : Int) ≤ m → m < 8 → ci z.1 (a + 16 + m.toNat) = ci σ (a + 16 + m.toNat) ∧ ci z.1 (a + 25 + m.toNat) = ci σ (a + 25 + m.toNat)) ∧ chgH (fun x => a + 16 ≤ x ∧ x < a + 33) σ z.1) (xK X).toNat ?_ ?_ (xK X).toNat 0 FU (σ, 0) (by omega) (by rw [FU_eq]; omega) ⟨rfl, ⟨fun _ _ h => by omega, fun _ _ _ => ⟨rfl, rfl⟩⟩, chgH.rf _ _⟩
  · rintro n i ⟨z, b⟩ hi ⟨rfl, ⟨hz, hzo⟩, hcz⟩
    dsimp only at hz hzo hcz ⊢
    have hcc := hc.same hcz.2.1
    have hxx := hx.same (agr_chg hcz (fun x hxz h => by
      have := hZ (x - a) (by omega)
      rw [show a + (x - a) = x by omega] at this
      exact this hxz))
    obtain ⟨bm, em, k1, k2, k3⟩ := x_mirrors hxx
    have e9 : ci z a = ci σ a := hcz.num (by omega)
    have hm9 : gI z 5 (some a) 9 = some mi := by rw [c_g hcc, e9, hmi]
    have hr := hR i (by omega) (by omega)
    have zi := hzo i (Int.le_refl _) (by omega)
    have hb1 : b1I (ci σ (a + 25 + (i : Int).toNat) mi) = ci σ (a + 25 + (i : Int).toNat) mi := by rcases hr.2 with e | e <;> rw [e] <;> decide
    have w1 := (chgH.rf (fun x => a + 16 ≤ x ∧ x < a + 33) z).wr (show a + 16 ≤ a + 16 + (i : Int).toNat ∧ a + 16 + (i : Int).toNat < a + 33 by omega) (mi + 1) (ci σ (a + 16 + (i : Int).toNat) mi)
    have c1 := hcc.same w1.2.1
    have m9 : gI (wr z (a + 16 + (i : Int).toNat) (mi + 1) (ci σ (a + 16 + (i : Int).toNat) mi)) 5 (some a) 9 = some mi := by rw [c_g c1, wr_cne _ _ _ (by omega), e9, hmi]
    right
    refine ⟨(wr (wr z (a + 16 + (i : Int).toNat) (mi + 1) (ci σ (a + 16 + (i : Int).toNat) mi)) (a + 25 + (i : Int).toNat) (mi + 1) (ci σ (a + 25 + (i : Int).toNat) mi), ((i + 1 : Nat) : Int)), ?_, rfl, ⟨?_, ?_⟩, hcz.tr (w1.wr (by omega) _ _)⟩
    · rw [f_X5_goesBy_L93, k1, obS, l_rcv k2, obS, l_size k2, bnS, nrm_i (z := xK X) (by omega) (by omega), nrm_i (z := (i : Int)) (by omega) (by omega), if_neg (by omega), c_g2 hcc, obS, c_r2 hcc (by omega) (by omega), obS, obS, c_r2 hcc (by omega) (by omega), obS, hm9, obS, c_a2 hcc (by omega) (by omega) (by omega) (by omega), obS, zi.1, i8_r hr.1.1 (by omega), c_s2 hcc _ (by omega) (by omega) (by omega) (by omega), obS, c_g3 c1, obS, c_r3 c1 (by omega) (by omega), obS, obS, c_r3 c1 (by omega) (by omega), obS, m9, obS, c_a3 c1 (by omega) (by omega) (by omega) (by omega), obS, wr_cne _ _ _ (by omega), zi.2, hb1, c_s3 c1 _ (by omega) (by omega) (by omega) (by omega), obS]
      rfl
    · intro m k0 k1'
      by_cases e : m = i
      · subst e
        obtain ⟨-, -, -, ⟨-, f0⟩, ⟨-, f1⟩, -⟩ := hcc
        obtain ⟨g0, s0⟩ := f0 i (by omega) (by omega)
        obtain ⟨g1, s1⟩ := f1 i (by omega) (by omega)
        refine ⟨?_, ?_⟩
        · show ci (wr _ _ _ _) _ = _
          rw [wr_cne _ _ _ (by omega), wr_ci (h := s0), zi.1]
        · show ci (wr _ _ _ _) _ = _
          rw [wr_ci (h := by rw [wr_shp]; exact s1), wr_cne _ _ _ (by omega), zi.2]
      · have := hz m k0 (by omega)
        refine ⟨?_, ?_⟩
        · show ci (wr _ _ _ _) _ = _
          rw [wr_cne _ _ _ (by omega), wr_cne _ _ _ (by omega)]
          exact this.1
        · show ci (wr _ _ _ _) _ = _
          rw [wr_cne _ _ _ (by omega), wr_cne _ _ _ (by omega)]
          exact this.2
    · intro m k0 k1'
      have := hzo m (by omega) k1'
      refine ⟨?_, ?_⟩
      · show ci (wr _ _ _ _) _ = _
        rw [wr_cne _ _ _ (by omega), wr_cne _ _ _ (by omega)]
        exact this.1
      · show ci (wr _ _ _ _) _ = _
        rw [wr_cne _ _ _ (by omega), wr_cne _ _ _ (by omega)]
        exact this.2
  · rintro n ⟨z, b⟩ ⟨rfl, ⟨hz, hzo⟩, hcz⟩
    dsimp only at hz hzo hcz ⊢
    have hxx := hx.same (agr_chg hcz (fun x hxz h => by
      have := hZ (x - a) (by omega)
      rw [show a + (x - a) = x by omega] at this
      exact this hxz))
    obtain ⟨bm, em, k1, k2, k3⟩ := x_mirrors hxx
    refine ⟨z, ?_, fun m k0 k1' => hz m k0 (by omega), hcz⟩
    rw [f_X5_goesBy_L93, k1, obS, l_rcv k2, obS, l_size k2, bnS, nrm_i (z := xK X) (by omega) (by omega), nrm_i (by omega) (by omega), if_pos (by omega)]
end

set_option maxRecDepth 100000
/-! ===== PURE: a minute goes by (component) ===== -/
section
variable {Z : Nat → Prop} {σ τ : Hp} {a r : Nat} {X : Txt} {K : Crt} {q : Int}
theorem hz_x (hZ : ∀ o : Nat, o < 47 → ¬ Z (a + o)) : ∀ x, Z x → ¬ crtS a x := fun x hz h => by
  unfold crtS at h
  have := hZ (x - a) (by omega)
  rw [show a + (x - a) = x by omega] at this
  exact this hz
theorem h_breaks (hc : Csh σ a) (hK : Cat σ a X K) (hX : WfX X) (hW : WfK X K) {k : Int} (h0 : 0 ≤ k) (h1 : k < xK X) : ∃ σ' : Hp, f_X5_breaks σ a k = some ((), σ') ∧ Cat σ' a X (setB K k (kMi K) (shw K k (kMi K))) ∧ chgH (crtS a) σ σ' := by
  have a4 := hX.2.2.2.1
  have a1 := hX.2.2.1
  have a2 := hW.1
  have hmi : gI σ 5 (some a) 9 = some (kMi K) := by rw [c_g hc, hK.1.1]
  have w1 := (chgH.rf (crtS a) σ).wr (show crtS a (a + 43) by unfold crtS; omega) k (shw K k (kMi K))
  have w2 := w1.wr (show crtS a (a + 42) by unfold crtS; omega) k (kMi K)
  have c1 := hc.same w1.2.1
  have hmi1 : gI (wr σ (a + 43) k (shw K k (kMi K))) 5 (some a) 9 = some (kMi K) := by rw [c_g c1, wr_cne _ _ _ (by omega), hK.1.1]
  unfold f_X5_breaks
  rw [c_g6 hc, obS, hmi, obS, c_o hc, obS, h_shows hc hK hX hW h0 h1 a2.1 (Int.le_refl _), bnS, c_sf hc _ h0 (by omega), obS, c_g5 c1, obS, hmi1, obS, c_sb c1 _ h0 (by omega), obS]
  refine ⟨_, rfl, ?_, w2⟩
  obtain ⟨-, -, -, -, -, -, ⟨g42, e42⟩, ⟨g43, e43⟩, -⟩ := hc
  have z42 : ci (wr (wr σ (a + 43) k (shw K k (kMi K))) (a + 42) k (kMi K)) (a + 42) = fu (ci σ (a + 42)) k (kMi K) := by
    rw [wr_ci (h := by rw [wr_shp]; exact e42), wr_cne _ _ _ (by omega)]
  have z43 : ci (wr (wr σ (a + 43) k (shw K k (kMi K))) (a + 42) k (kMi K)) (a + 43) = fu (ci σ (a + 43)) k (shw K k (kMi K)) := by
    rw [wr_cne _ _ _ (by omega), wr_ci (h := e43)]
  have zo : ∀ b : Nat, b ≠ a + 42 → b ≠ a + 43 → ci (wr (wr σ (a + 43) k (shw K k (kMi K))) (a + 42) k (kMi K)) b = ci σ b := fun b h1 h2 => by rw [wr_cne _ _ _ h1, wr_cne _ _ _ h2]
  refine ⟨by rw [zo a (by omega) (by omega)]; exact hK.1, fun m t b0 b1 b2 b3 => ?_, fun j t b0 b1 b2 b3 => ?_, fun j b0 b1 => ?_⟩
  · rw [zo _ (by omega) (by omega), zo _ (by omega) (by omega)]
    exact hK.2.1 m t b0 b1 b2 b3
  · rw [zo _ (by omega) (by omega), zo _ (by omega) (by omega), zo _ (by omega) (by omega)]
    exact hK.2.2.1 j t b0 b1 b2 b3
  · rw [z42, z43]
    show fu _ k _ j = fu (kB K) k (kMi K) j ∧ fu _ k _ j = fu (kF K) k (shw K k (kMi K)) j
    by_cases e : j = k
    · rw [e, fuE, fuE, fuE, fuE]; exact ⟨rfl, rfl⟩
    · rw [fuN _ _ e, fuN _ _ e, fuN _ _ e, fuN _ _ e]
      exact hK.2.2.2 j b0 b1
theorem h_lot (s : Hp) (sd wh : Int) : f_X0_lot s sd wh 100 = some (lotI sd wh, s) := by
  unfold f_X0_lot f_X0_mixed
  rw [bnS, bnS, if_neg (by decide)]
  rfl
theorem x_breaks (h : TxtAt Z σ r X) : gI σ 4 (some r) 4 = some (xB X) ∧ gI σ 4 (some r) 3 = some (xD X) ∧ gI σ 4 (some r) 5 = some (xS X) := by
  obtain ⟨hz, g, a1, a2, a3, e1, e2, e3, h1, h2, h3, h4, h7, h8, h9, h10⟩ := h
  exact ⟨by rw [gI_s h1, h3.2.1], by rw [gI_s h1, h3.1], by rw [gI_s h1, h3.2.2]⟩
/-- the lots -/
theorem h_lots (hc : Csh σ a) (hx : TxtAt Z σ r X) (hZ : ∀ o : Nat, o < 47 → ¬ Z (a + o)) (hK : Cat σ a X K) (hX : WfX X) (hW : WfK X K) : ∃ σ' : Hp, f_X5_goesBy_L160 a FU σ (some r) 0 (fun s72 => some ((), s72)) = some ((), σ') ∧ Cat σ' a X (bI X K (xK X).toNat) ∧ chgH (crtS a) σ σ' := by
  have a4 := hX.2.2.2.1
  have a2 := hW.1
  have hB := hX.2.2.2.2.1
  refine loop (S := Hp × Int) (fun n z => f_X5_goesBy_L160 a n z.1 (some r) z.2 (fun s72 => some ((), s72))) (fun o => ∃ σ' : Hp, o = some ((), σ') ∧ Cat σ' a X (bI X K (xK X).toNat) ∧ chgH (crtS a) σ σ')
    (fun i z => z.2 = (i : Int) ∧ Cat z.1 a X (bI X K i) ∧ chgH (crtS a) σ z.1) (xK X).toNat ?_ ?_ (xK X).toNat 0 FU (σ, 0) (by omega) (by rw [FU_eq]; omega) ⟨rfl, hK, chgH.rf _ _⟩
  · rintro n i ⟨z, b⟩ hi ⟨rfl, hz, hcz⟩
    dsimp only at hz hcz ⊢
    have hcc := hc.same hcz.2.1
    have hxx := hx.same (agr_chg hcz (hz_x hZ))
    have hWi := bI_wf hW i (by omega)
    have e5 := (bI_same X K i).1
    have hmy : kMi (bI X K i) = kMi K := by unfold kMi; rw [e5]
    have hsy : kSd (bI X K i) = kSd K := by unfold kSd; rw [e5]
    have hbw := (hWi.2.2.2 i (by omega) (by omega)).1
    obtain ⟨bk, ek, k1, k2, k3⟩ := x_mirrors hxx
    have hmi : gI z 5 (some a) 9 = some (kMi K) := by rw [c_g hcc, hz.1.1, hmy]
    have hsd : gI z 5 (some a) 10 = some (kSd K) := by rw [c_g hcc, hz.1.2, hsy]
    have hlot : nrm (lotI (kSd K) (8 * kMi K + i)) = lotI (kSd K) (8 * kMi K + i) := by unfold lotI rmI; exact nrm_of _
    right
    have e6 : f_X5_goesBy_L160 a (n + 1) z (some r) i (fun s72 => some ((), s72)) = (if kB (bI X K i) i ≤ kMi K then f_X5_goesBy_L160 a n z (some r) ((i : Int) + 1) (fun s72 => some ((), s72)) else if xB X ≤ lotI (kSd K) (8 * kMi K + i) then f_X5_goesBy_L160 a n z (some r) ((i : Int) + 1) (fun s72 => some ((), s72)) else bn (f_X5_breaks z a i) fun _ s67 => f_X5_goesBy_L160 a n s67 (some r) ((i : Int) + 1) (fun s72 => some ((), s72))) := by
      rw [f_X5_goesBy_L160, k1, obS, l_rcv k2, obS, l_size k2, bnS, nrm_i (z := xK X) (by omega) (by omega), nrm_i (z := (i : Int)) (by omega) (by omega), if_neg (by omega), hmi, obS, c_o hcc, obS, h_isBroken hcc hz hX hWi (by omega) (by omega) a2.1 (by omega), bnS]
      by_cases e : kB (bI X K i) i ≤ kMi K
      · rw [if_pos e, if_pos e, if_pos (by decide)]
      · rw [if_neg e, if_neg e, if_neg (by decide), hsd, obS, hmi, obS, h_lot, bnS, (x_breaks hxx).1, obS, hlot, nrm_i (z := xB X) (by omega) (by omega), c_o hcc, obS]
    by_cases q1 : kB (bI X K i) i = 300
    · by_cases q2 : lotI (kSd K) (8 * kMi K + i) < xB X
      · obtain ⟨s5, e7, r5, c5⟩ := h_breaks (k := i) hcc hz hX hWi (by omega) (by omega)
        refine ⟨(s5, ((i + 1 : Nat) : Int)), ?_, rfl, ?_, hcz.tr c5⟩
        · rw [e6, if_neg (by omega), if_neg (by omega), e7, bnS]
          rfl
        · rw [bI, if_pos ⟨q1, q2⟩]
          rw [hmy] at r5
          exact r5
      · refine ⟨(z, ((i + 1 : Nat) : Int)), ?_, rfl, ?_, hcz⟩
        · rw [e6, if_neg (by omega), if_pos (by omega)]
          rfl
        · rw [bI, if_neg (by omega)]
          exact hz
    · refine ⟨(z, ((i + 1 : Nat) : Int)), ?_, rfl, ?_, hcz⟩
      · rw [e6, if_pos (by omega)]
        rfl
      · rw [bI, if_neg (by omega)]
        exact hz
  · rintro n ⟨z, b⟩ ⟨rfl, hz, hcz⟩
    dsimp only at hz hcz ⊢
    obtain ⟨bk, ek, k1, k2, k3⟩ := x_mirrors (hx.same (agr_chg hcz (hz_x hZ)))
    refine ⟨z, ?_, hz, hcz⟩
    rw [f_X5_goesBy_L160, k1, obS, l_rcv k2, obS, l_size k2, bnS, nrm_i (z := xK X) (by omega) (by omega), nrm_i (by omega) (by omega), if_pos (by omega)]
end

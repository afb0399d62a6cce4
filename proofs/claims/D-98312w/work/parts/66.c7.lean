set_option maxRecDepth 100000
section
variable {Z : Nat → Prop} {σ τ : Hp} {a r : Nat} {X : Txt} {K : Crt} {q : Int}
theorem h_goesBy (hc : Csh σ a) (hx : TxtAt Z σ r X) (hZ : ∀ o : Nat, o < 47 → ¬ Z (a + o)) (hK : Cat σ a X K) (hX : WfX X) (hW : WfK X K) (hm : kMi K < 299) : ∃ σ' : Hp, f_X5_goesBy σ a (some r) = some ((), σ') ∧ Cat σ' a X (stp X K) ∧ chgH (crtS a) σ σ' := by
  have a0 := hX.1
  have a1 := hX.2.2.1
  have a4 := hX.2.2.2.1
  have a2 := hW.1
  have hmi : gI σ 5 (some a) 9 = some (kMi K) := by rw [c_g hc, hK.1.1]
  have ag : ∀ τ : Hp, chgH (crtS a) σ τ → TxtAt Z τ r X := fun τ e => hx.same (agr_chg e (hz_x hZ))
  unfold f_X5_goesBy
  rw [hmi, obS]
  obtain ⟨s1, e1, p1, c1⟩ := h_gb9 hc hx hZ hK hX hW (kMi K + 1) (fun s12 x1 x2 => f_X5_goesBy_L40 a FU s12 x1 x2 0 (fun s30 x1 x2 => f_X5_goesBy_L93 a FU s30 x1 x2 0 (fun s50 x1 x2 => (pI s50 5 (some a) 9 (nrm x2)).bind fun s51 => (rcv s51 5 (some a)).bind fun b53 => bn (f_X5_looks s51 b53 x1) fun _ s52 => f_X5_goesBy_L160 a FU s52 x1 0 (fun s72 => some ((), s72)))))
  rw [e1]
  have d1 : chgH (crtS a) σ s1 := c1.up fun x h => by unfold crtS; omega
  have n1 : ∀ o : Nat, o < 44 → ci s1 (a + o) = ci σ (a + o) := fun o ho => c1.num (by omega)
  have k9 : ∀ m : Int, 0 ≤ m → m < xM X → ci s1 (a + 9 + m.toNat) = ci σ (a + 9 + m.toNat) := fun m b0 b1 => by
    have := n1 (9 + m.toNat) (by omega)
    rw [← Nat.add_assoc] at this
    exact this
  have k2 : ∀ m : Int, 0 ≤ m → m < xM X → ci s1 (a + 2 + m.toNat) = ci σ (a + 2 + m.toNat) := fun m b0 b1 => by
    have := n1 (2 + m.toNat) (by omega)
    rw [← Nat.add_assoc] at this
    exact this
  obtain ⟨s2, e2, p2, c2⟩ := h_gb40 (hc.same d1.2.1) (ag s1 d1) hZ hX (mi := kMi K) (by have := n1 0 (by decide); rw [Nat.add_zero] at this; rw [this]; exact hK.1.1) a2.1 hm (gto X K) (fun m b0 b1 => ⟨p1 m b0 b1, (gto_in hX hW b0 b1).1, by have := (gto_in hX hW b0 b1).2; omega⟩) (fun m b0 b1 => by
    rw [k9 m b0 b1, (hK.2.1 m (kMi K) b0 b1 a2.1 (Int.le_refl _)).2]
    exact (hW.2.1 m (kMi K) b0 b1 a2.1 (Int.le_refl _)).2) (fun s30 x1 x2 => f_X5_goesBy_L93 a FU s30 x1 x2 0 (fun s50 x1 x2 => (pI s50 5 (some a) 9 (nrm x2)).bind fun s51 => (rcv s51 5 (some a)).bind fun b53 => bn (f_X5_looks s51 b53 x1) fun _ s52 => f_X5_goesBy_L160 a FU s52 x1 0 (fun s72 => some ((), s72))))
  rw [e2]
  have d2 : chgH (crtS a) σ s2 := d1.tr (c2.up fun x h => by unfold crtS; omega)
  have n2 : ∀ o : Nat, (o < 2 ∨ (15 ≤ o ∧ o < 44)) → ci s2 (a + o) = ci σ (a + o) := fun o ho => (c2.num (by omega)).trans (n1 o (by omega))
  have k16 : ∀ m : Int, 0 ≤ m → m < xK X → ci s2 (a + 16 + m.toNat) = ci σ (a + 16 + m.toNat) ∧ ci s2 (a + 25 + m.toNat) = ci σ (a + 25 + m.toNat) := fun m b0 b1 => by
    have h1 := n2 (16 + m.toNat) (by omega)
    have h2 := n2 (25 + m.toNat) (by omega)
    rw [← Nat.add_assoc] at h1 h2
    exact ⟨h1, h2⟩
  obtain ⟨s3, e3, p3, c3⟩ := h_gb93 (hc.same d2.2.1) (ag s2 d2) hZ hX (mi := kMi K) (by have := n2 0 (by decide); rw [Nat.add_zero] at this; rw [this]; exact hK.1.1) a2.1 hm (fun m b0 b1 => by
    have h1 := hK.2.2.1 m (kMi K) b0 b1 a2.1 (Int.le_refl _)
    have h2 := hW.2.2.1 m (kMi K) b0 b1 a2.1 (Int.le_refl _)
    rw [(k16 m b0 b1).1, (k16 m b0 b1).2, h1.1, h1.2.1]
    exact ⟨⟨h2.1.1, by omega⟩, h2.2.1⟩) (fun s50 x1 x2 => (pI s50 5 (some a) 9 (nrm x2)).bind fun s51 => (rcv s51 5 (some a)).bind fun b53 => bn (f_X5_looks s51 b53 x1) fun _ s52 => f_X5_goesBy_L160 a FU s52 x1 0 (fun s72 => some ((), s72)))
  rw [e3]
  have d3 : chgH (crtS a) σ s3 := d2.tr (c3.up fun x h => by unfold crtS; omega)
  have hc3 := hc.same d3.2.1
  have d4 : chgH (crtS a) σ (wr s3 a 9 (kMi K + 1)) := d3.wr (by unfold crtS; omega) _ _
  have hc4 := hc.same d4.2.1
  have n3 : ∀ o : Nat, (o < 2 ∨ (33 ≤ o ∧ o < 44)) → ci s3 (a + o) = ci σ (a + o) := fun o ho => (c3.num (by omega)).trans (n2 o (by omega))
  have hK4 : CatQ (kMi (stp0 X K) - 1) (wr s3 a 9 (kMi K + 1)) a X (stp0 X K) := by
    have ea : ci (wr s3 a 9 (kMi K + 1)) a = fu (ci s3 a) 9 (kMi K + 1) := by
      obtain ⟨⟨g, h1, -⟩, -⟩ := hc3
      exact wr_ci s3 _ _ h1
    have eo : ∀ b : Nat, b ≠ a → ci (wr s3 a 9 (kMi K + 1)) b = ci s3 b := fun b hb => wr_cne s3 _ _ hb
    have e0 : ci s3 a = ci σ a := by have := n3 0 (by decide); rw [Nat.add_zero] at this; exact this
    refine ⟨⟨by rw [ea, fuE]; rfl, by rw [ea, fuN _ _ (by decide), e0]; exact hK.1.2⟩, fun m t b0 b1 b2 b3 => ?_, fun k t b0 b1 b2 b3 => ?_, fun k b0 b1 => ?_⟩
    · have b3 : t ≤ kMi K + 1 := b3
      rw [eo _ (by omega), eo _ (by omega), c3.num (by omega), c3.num (by omega), (p2 m b0 b1).1, (p2 m b0 b1).2, k2 m b0 b1, k9 m b0 b1]
      show fu _ _ _ t = nx (kW K) (fun m _ => gto X K m) (kMi K) m t ∧ fu _ _ _ t = nx (kR K) (kR K) (kMi K) m t
      unfold nx
      by_cases e : t = kMi K + 1
      · rw [if_pos e, if_pos e, e, fuE, fuE]
        exact ⟨rfl, (hK.2.1 m (kMi K) b0 b1 a2.1 (Int.le_refl _)).2⟩
      · rw [if_neg e, if_neg e, fuN _ _ e, fuN _ _ e]
        exact hK.2.1 m t b0 b1 b2 (by omega)
    · have b3 : t ≤ kMi K + 1 := b3
      have e34 : ci s3 (a + 34 + k.toNat) = ci σ (a + 34 + k.toNat) := by
        have := n3 (34 + k.toNat) (by omega)
        rw [← Nat.add_assoc] at this
        exact this
      rw [eo _ (by omega), eo _ (by omega), eo _ (by omega), (p3 k b0 b1).1, (p3 k b0 b1).2, (k16 k b0 b1).1, (k16 k b0 b1).2, e34]
      show fu _ _ _ t = nx (kH K) (kH K) (kMi K) k t ∧ fu _ _ _ t = nx (kU K) (kU K) (kMi K) k t ∧ (t ≤ kMi K + 1 - 1 → _ = kL K k t)
      unfold nx
      by_cases e : t = kMi K + 1
      · rw [if_pos e, if_pos e, e, fuE, fuE]
        have := hK.2.2.1 k (kMi K) b0 b1 a2.1 (Int.le_refl _)
        exact ⟨this.1, this.2.1, fun h => by omega⟩
      · rw [if_neg e, if_neg e, fuN _ _ e, fuN _ _ e]
        have := hK.2.2.1 k t b0 b1 b2 (by omega)
        exact ⟨this.1, this.2.1, fun h => this.2.2 (by omega)⟩
    · rw [eo _ (by omega), eo _ (by omega), n3 42 (by decide), n3 43 (by decide)]
      exact hK.2.2.2 k b0 b1
  obtain ⟨s5, e5, r5, c5⟩ := h_looks hc4 (ag _ d4) hZ hK4 hX (stp0_wf hX hW hm)
  obtain ⟨s6, e6, r6, c6⟩ := h_lots (hc4.same c5.2.1) (ag _ (d4.tr c5)) hZ r5 hX (lks_wf (stp0_wf hX hW hm))
  rw [nrm_i (by omega) (by omega), c_p hc3, obS, c_o hc4, obS, e5, bnS, e6]
  exact ⟨s6, rfl, r6, (d4.tr c5).tr c6⟩
end

set_option maxRecDepth 100000
/-! ===== PURE: where men go (component) ===== -/
section
variable {Z : Nat → Prop} {σ τ : Hp} {a r : Nat} {X : Txt} {K : Crt} {q : Int}
theorem h_goes (hc : Csh σ a) (hx : TxtAt Z σ r X) (hZ : ∀ o : Nat, o < 47 → ¬ Z (a + o)) (hK : CatQ q σ a X K) (hX : WfX X) (hW : WfQ q X K) {m : Int} (h0 : 0 ≤ m) (h1 : m < xM X) : ∃ σ' : Hp, f_X5_goes σ a (some r) m = some (gto X K m, σ') ∧ chgH (askS a) σ σ' := by
  have a1 := hX.2.2.1
  have a0 := hX.1
  have a2 := hW.1
  have hh := hK.2.1 m (kMi K) h0 h1 (by omega) (Int.le_refl _)
  have hw := hW.2.1 m (kMi K) h0 h1 (by omega) (Int.le_refl _)
  have hmi : gI σ 5 (some a) 9 = some (kMi K) := by rw [c_g hc, hK.1.1]
  have hwy := wys_le hX (kW K m (kMi K))
  obtain ⟨bm, em, m1, m2, m3⟩ := x_men hx
  obtain ⟨-, gm, n1, -, -, hl⟩ := m3 m h0 h1
  obtain ⟨br, er, r1, r2, r3⟩ := x_rooms hx
  obtain ⟨-, gr, d, gd, s1, s2, -, s4, s5, s6⟩ := r3 (kW K m (kMi K)) hw.1.1 hw.1.2
  unfold f_X5_goes
  rw [m1, obS, l_rcv m2, obS, l_get m2 h0 h1, bnS, kst_s n1 (by decide), obS, gR_s n1, obS, c_g0 hc, obS, c_r0 hc h0 (by omega), obS, hmi, obS, c_a0 hc h0 (by omega) (by omega) (by omega), obS, hh.1, r1, obS, l_rcv r2, obS, l_get r2 hw.1.1 hw.1.2, bnS, kst_s s1 (by decide), obS, gI_s s1, obS, s5]
  rcases hl with ⟨hn, e⟩ | ⟨l, hn, hl⟩
  · rw [hn, if_neg (by simp)]
    refine ⟨σ, ?_, chgH.rf _ _⟩
    have : gk X K m = 0 := by unfold gk; rw [e]
    unfold gto
    rw [this, if_pos (Or.inr (by simp))]
  · rw [hn, if_pos (by simp)]
    have st : ∀ τ : Hp, chgH (askS a) σ τ → Csh τ a ∧ TxtAt Z τ r X ∧ CatQ q τ a X K ∧ gI τ 5 (some a) 9 = some (kMi K) := by
      intro τ e
      have c1 := hc.same e.2.1
      have c3 := hK.same e (fun o ho h => by unfold askS at h; omega) hX
      refine ⟨c1, hx.same (agr_chg e fun x hxz h => ?_), c3, by rw [c_g c1, c3.1.1]⟩
      rcases h with h | h
      · rw [h] at hxz; exact hZ 45 (by decide) hxz
      · rw [h] at hxz; exact hZ 46 (by decide) hxz
    have hpc := pcn_in (mIn X K (kW K m (kMi K)) (kMi K))
    have w0 := (chgH.rf (askS a) σ).wr (Or.inr rfl : askS a (a + 46)) 0 (kMi K)
    have w1 := w0.wr (Or.inr rfl : askS a (a + 46)) 1 (kW K m (kMi K))
    have w2 := w1.wr (Or.inr rfl : askS a (a + 46)) 2 (kR K m (kMi K))
    have w3 := w2.wr (Or.inr rfl : askS a (a + 46)) 3 m
    have w4 := w3.wr (Or.inr rfl : askS a (a + 46)) 4 (wys X (kW K m (kMi K)))
    have w5 := w4.wr (Or.inr rfl : askS a (a + 46)) 5 (pcn (mIn X K (kW K m (kMi K)) (kMi K)) - 1)
    obtain ⟨c0, -, -, m0⟩ := st _ w0
    obtain ⟨c1, -, q1, m1⟩ := st _ w1
    obtain ⟨c2, -, -, m2⟩ := st _ w2
    obtain ⟨c3, x3, -, m3⟩ := st _ w3
    obtain ⟨c4, x4, q4, m4⟩ := st _ w4
    obtain ⟨c5, x5, q5, m5⟩ := st _ w5
    have hz1 := (q1.2.1 m (kMi K) h0 h1 (by omega) (Int.le_refl _)).2
    rw [c_g8 hc, obS, c_as hc, obS, hmi, obS, c_sv hc _ (by decide) (by decide), obS, c_g8 c0, obS, c_as c0, obS, c_sv c0 _ (by decide) (by decide), obS, c_g8 c1, obS, c_as c1, obS, c_g1 c1, obS, c_r1 c1 h0 (by omega), obS, m1, obS, c_a1 c1 h0 (by omega) (by omega) (by omega), obS, hz1, c_sv c1 _ (by decide) (by decide), obS, c_g8 c2, obS, c_as c2, obS, nrm_i (z := m) (by omega) (by omega), c_sv c2 _ (by decide) (by decide), obS, c_g8 c3, obS, c_as c3, obS, c_sv c3 _ (by decide) (by decide), obS, c_g8 c4, obS, c_as c4, obS, m4, obS, c_o c4, obS, h_menIn c4 x4 q4 hX hW (by omega) (by omega) (by omega) (Int.le_refl _), bnS, h_bits _ _ (Nat.lt_of_lt_of_le (mIn_lt X hX K _ _) (by decide)), bnS, nrm_i (z := pcn (mIn X K (kW K m (kMi K)) (kMi K)) - 1) (by omega) (by omega), c_sv c4 _ (by decide) (by decide), obS, c_g8 c5, obS]
    have hlc := hl.same (agr_chg w5 fun x hxz h => by
      rcases h with h | h
      · rw [h] at hxz; exact hZ 45 (by decide) hxz
      · rw [h] at hxz; exact hZ 46 (by decide) hxz)
    obtain ⟨hzl, ⟨gl, hsl⟩, hlaw⟩ := hlc
    obtain ⟨-, -, -, -, -, -, -, -, -, ⟨g45, e45, f45⟩, ⟨g46, e46⟩⟩ := c5
    obtain ⟨τ', f1, f2, f3⟩ := hlaw _ (fun _ _ => rfl) (a + 45) (a + 46) g45 g46 e45 f45 e46 (hZ 45 (by decide)) (hZ 46 (by decide)) (by omega)
    have cc : chgH (askS a) σ τ' := w5.tr (f2.up fun x hx => Or.inl hx)
    have hci : ∀ j : Int, ci (wr (wr (wr (wr (wr (wr σ (a + 46) 0 (kMi K)) (a + 46) 1 (kW K m (kMi K))) (a + 46) 2 (kR K m (kMi K))) (a + 46) 3 m) (a + 46) 4 (wys X (kW K m (kMi K)))) (a + 46) 5 (pcn (mIn X K (kW K m (kMi K)) (kMi K)) - 1)) (a + 46) j = fu (fu (fu (fu (fu (fu (ci σ (a + 46)) 0 (kMi K)) 1 (kW K m (kMi K))) 2 (kR K m (kMi K))) 3 m) 4 (wys X (kW K m (kMi K)))) 5 (pcn (mIn X K (kW K m (kMi K)) (kMi K)) - 1) j := by
      intro j
      have z0 : shp σ (a + 46) = some (100, 6, g46) := by rw [← w5.2.1]; exact e46
      rw [wr_ci (h := by rw [wr_shp, wr_shp, wr_shp, wr_shp, wr_shp]; exact z0), wr_ci (h := by rw [wr_shp, wr_shp, wr_shp, wr_shp]; exact z0), wr_ci (h := by rw [wr_shp, wr_shp, wr_shp]; exact z0), wr_ci (h := by rw [wr_shp, wr_shp]; exact z0), wr_ci (h := by rw [wr_shp]; exact z0), wr_ci (h := z0)]
    rw [hci, hci, hci, hci, hci, hci] at f1 f3
    have egk : (xG X m (fu (fu (fu (fu (fu (fu (ci σ (a + 46)) 0 (kMi K)) 1 (kW K m (kMi K))) 2 (kR K m (kMi K))) 3 m) 4 (wys X (kW K m (kMi K)))) 5 (pcn (mIn X K (kW K m (kMi K)) (kMi K)) - 1) 0) (fu (fu (fu (fu (fu (fu (ci σ (a + 46)) 0 (kMi K)) 1 (kW K m (kMi K))) 2 (kR K m (kMi K))) 3 m) 4 (wys X (kW K m (kMi K)))) 5 (pcn (mIn X K (kW K m (kMi K)) (kMi K)) - 1) 1) (fu (fu (fu (fu (fu (fu (ci σ (a + 46)) 0 (kMi K)) 1 (kW K m (kMi K))) 2 (kR K m (kMi K))) 3 m) 4 (wys X (kW K m (kMi K)))) 5 (pcn (mIn X K (kW K m (kMi K)) (kMi K)) - 1) 2) (fu (fu (fu (fu (fu (fu (ci σ (a + 46)) 0 (kMi K)) 1 (kW K m (kMi K))) 2 (kR K m (kMi K))) 3 m) 4 (wys X (kW K m (kMi K)))) 5 (pcn (mIn X K (kW K m (kMi K)) (kMi K)) - 1) 3) (fu (fu (fu (fu (fu (fu (ci σ (a + 46)) 0 (kMi K)) 1 (kW K m (kMi K))) 2 (kR K m (kMi K))) 3 m) 4 (wys X (kW K m (kMi K)))) 5 (pcn (mIn X K (kW K m (kMi K)) (kMi K)) - 1) 4) (fu (fu (fu (fu (fu (fu (ci σ (a + 46)) 0 (kMi K)) 1 (kW K m (kMi K))) 2 (kR K m (kMi K))) 3 m) 4 (wys X (kW K m (kMi K)))) 5 (pcn (mIn X K (kW K m (kMi K)) (kMi K)) - 1) 5)) = gk X K m := by unfold gk; simp [fu]
    rw [egk] at f1 f3
    have hg := nrm_in (gk X K m)
    rw [f3] at hg
    rw [rcv_s hsl, obS, f1, bnS, jnS]
    dsimp only
    rw [f3]
    unfold gto
    by_cases p1 : 0 ≤ gk X K m
    · rw [if_pos p1, nrm_i (z := wys X (kW K m (kMi K)) + 1) (by omega) (by omega), if_neg (by omega), rmI_i p1 hg.2 (by omega) (by omega)]
      have p2 : 0 ≤ gk X K m % (wys X (kW K m (kMi K)) + 1) := Int.emod_nonneg _ (by omega)
      have p3 : gk X K m % (wys X (kW K m (kMi K)) + 1) < wys X (kW K m (kMi K)) + 1 := Int.emod_lt_of_pos _ (by omega)
      rw [nrm_i (by omega) (by omega)]
      by_cases p4 : gk X K m % (wys X (kW K m (kMi K)) + 1) = 0
      · rw [if_neg (by omega), if_pos (Or.inr p4), nrm_i (z := kW K m (kMi K)) (by omega) (by omega)]
        exact ⟨_, rfl, cc⟩
      · obtain ⟨bq, eq, t1, t2, t3⟩ := x_rooms (st _ cc).2.1
        obtain ⟨-, gq, dq, gdq, u1, u2, -, u4, u5, u6⟩ := t3 (kW K m (kMi K)) hw.1.1 hw.1.2
        rw [if_pos p4, if_neg (by omega), t1, obS, l_rcv t2, obS, l_get t2 hw.1.1 hw.1.2, bnS, kst_s u1 (by decide), obS, gR_s u1, obS, u2, aI_s u4 (by omega) (by omega) (by omega), obS, u6 _ (by omega) (by omega), Int.sub_add_cancel]
        exact ⟨_, rfl, cc⟩
    · rw [if_neg p1, if_neg (by decide), if_pos (Or.inl (by omega)), nrm_i (z := kW K m (kMi K)) (by omega) (by omega)]
      exact ⟨_, rfl, cc⟩
end

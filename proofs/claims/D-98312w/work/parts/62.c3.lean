set_option maxRecDepth 100000
/-! ===== PURE: how late mirrors are (component) ===== -/
def h0p : Hp := (fun _ => none, 0, 0, fun _ => 0)
theorem bc_val : ∀ x : Nat, x < 256 → (f_J8_bitCount h0p (x : Int)).map (fun q => q.1) = some (pcn x) := by decide +kernel
theorem h_bits (s : Hp) (x : Nat) (hx : x < 256) : f_J8_bitCount s (x : Int) = some (pcn x, s) := by
  have h := bc_val x hx
  have e : f_J8_bitCount s (x : Int) = ((f_J8_bitCount h0p (x : Int)).map (fun q => q.1)).map (fun v => (v, s)) := rfl
  rw [e, h]
  rfl
theorem pcn_in (x : Nat) : 0 ≤ pcn x ∧ pcn x ≤ 8 := by
  have := cn_le (fun a => x.testBit a) 8
  unfold pcn
  omega
theorem kst_s {σ : Hp} {a t : Nat} {n : Int} {g : Int → Option Nat} (h : shp σ a = some (t, n, g)) {ts : List Nat} (ht : t ∈ ts) : kst σ ts (some a) = some (some a) := by
  unfold kst
  rw [obS, shp_some h, obS]
  exact if_pos ht
section
variable {Z : Nat → Prop} {σ τ : Hp} {a r : Nat} {X : Txt} {K : Crt} {q : Int}
theorem CatQ.same (h : CatQ q σ a X K) {S : Nat → Prop} (e : chgH S σ τ) (hS : ∀ o : Nat, o < 44 → ¬ S (a + o)) (hX : WfX X) : CatQ q τ a X K := by
  have a1 := hX.2.2.1
  have a4 := hX.2.2.2.1
  have g : ∀ o : Nat, o < 44 → ci τ (a + o) = ci σ (a + o) := fun o ho => e.num (hS o ho)
  have g0 : ci τ a = ci σ a := g 0 (by decide)
  refine ⟨by rw [g0]; exact h.1, fun m t b0 b1 b2 b3 => ?_, fun k t b0 b1 b2 b3 => ?_, fun k b0 b1 => ?_⟩
  · rw [Nat.add_assoc, Nat.add_assoc, g (2 + m.toNat) (by omega), g (9 + m.toNat) (by omega), ← Nat.add_assoc, ← Nat.add_assoc]
    exact h.2.1 m t b0 b1 b2 b3
  · rw [Nat.add_assoc, Nat.add_assoc, Nat.add_assoc, g (16 + k.toNat) (by omega), g (25 + k.toNat) (by omega), g (34 + k.toNat) (by omega), ← Nat.add_assoc, ← Nat.add_assoc, ← Nat.add_assoc]
    exact h.2.2.1 k t b0 b1 b2 b3
  · rw [g 42 (by decide), g 43 (by decide)]
    exact h.2.2.2 k b0 b1
/-- the cells of a court's numbers that are asked -/
def askS (a : Nat) (x : Nat) : Prop := x = a + 45 ∨ x = a + 46
theorem x_late (h : TxtAt Z σ r X) : ∃ v : Option Nat, gR σ 4 (some r) 6 = some v ∧ lawO Z σ v (fun _ _ rk _ _ _ => rk) (xL X) := by
  obtain ⟨hz, g, a1, a2, a3, e1, e2, e3, h1, h2, h3, h4, h7, h8, h9, h10⟩ := h
  exact ⟨g 6, gR_s h1 6, h10⟩
theorem mx_mn (v : Int) (hv : nrm v = v) : nrm (mxI 0 (mnI 240 v)) = clp v := by
  have n0 : nrm 0 = 0 := by decide
  have n240 : nrm 240 = 240 := by decide
  unfold mnI mxI clp
  rw [hv, n240, n0]
  by_cases h1 : v < 240
  · rw [if_pos h1, hv]
    by_cases h2 : 0 < v
    · rw [if_pos h2, if_neg (by omega), if_neg (by omega), hv]
    · rw [if_neg h2]
      by_cases h3 : v < 0
      · rw [if_pos h3, n0]
      · rw [if_neg h3, if_neg (by omega), n0]; omega
  · rw [if_neg h1, n240, if_pos (by decide), if_neg (by omega), n240]
    by_cases h3 : 240 < v
    · rw [if_pos h3]
    · rw [if_neg h3]; omega
theorem h_lateBy (hc : Csh σ a) (hx : TxtAt Z σ r X) (hZ : ∀ o : Nat, o < 47 → ¬ Z (a + o)) (hK : CatQ q σ a X K) (hX : WfX X) (hW : WfQ q X K) {k rk : Int} (h0 : 0 ≤ k) (h1 : k < xK X) (k0 : 0 ≤ rk) (k1 : rk ≤ 20) : ∃ σ' : Hp, f_X5_lateBy σ a (some r) k rk = some (lat X K k rk, σ') ∧ chgH (askS a) σ σ' := by
  have a4 := hX.2.2.2.1
  have a0 := hX.1
  have a2 := hW.1
  obtain ⟨v, hv, hl⟩ := x_late hx
  unfold f_X5_lateBy
  rw [hv, obS]
  rcases hl with ⟨rfl, e⟩ | ⟨l, rfl, hl⟩
  · rw [if_neg (by simp)]
    refine ⟨σ, ?_, chgH.rf _ _⟩
    rw [nrm_i (by omega) (by omega)]
    unfold lat
    rw [e]
    unfold clp
    dsimp only
    rw [if_neg (by omega), if_neg (by omega)]
  · rw [if_pos (by simp)]
    have hh := hK.2.2.1 k (kMi K) h0 h1 (by omega) (Int.le_refl _)
    have hw := (hW.2.2.1 k (kMi K) h0 h1 (by omega) (Int.le_refl _)).1
    -- what holds after a write of the asked numbers
    have st : ∀ τ : Hp, chgH (askS a) σ τ → Csh τ a ∧ TxtAt Z τ r X ∧ CatQ q τ a X K ∧ gI τ 5 (some a) 9 = some (kMi K) := by
      intro τ e
      have c1 := hc.same e.2.1
      have c3 := hK.same e (fun o ho h => by unfold askS at h; omega) hX
      refine ⟨c1, hx.same (agr_chg e fun x hxz h => ?_), c3, by rw [c_g c1, c3.1.1]⟩
      rcases h with h | h
      · rw [h] at hxz; exact hZ 45 (by decide) hxz
      · rw [h] at hxz; exact hZ 46 (by decide) hxz
    have w0 := (chgH.rf (askS a) σ).wr (Or.inr rfl : askS a (a + 46)) 0 (kMi K)
    have w1 := w0.wr (Or.inr rfl : askS a (a + 46)) 1 (kH K k (kMi K))
    have w2 := w1.wr (Or.inr rfl : askS a (a + 46)) 2 rk
    have w3 := w2.wr (Or.inr rfl : askS a (a + 46)) 3 k
    have w4 := w3.wr (Or.inr rfl : askS a (a + 46)) 4 (wys X (kH K k (kMi K)))
    have w5 := w4.wr (Or.inr rfl : askS a (a + 46)) 5 (pcn (mIn X K (kH K k (kMi K)) (kMi K)))
    obtain ⟨c0, -, -, m0⟩ := st _ w0
    obtain ⟨c1, -, -, m1⟩ := st _ w1
    obtain ⟨c2, -, -, m2⟩ := st _ w2
    obtain ⟨c3, x3, -, m3⟩ := st _ w3
    obtain ⟨c4, x4, q4, m4⟩ := st _ w4
    obtain ⟨c5, x5, q5, m5⟩ := st _ w5
    have hmi : gI σ 5 (some a) 9 = some (kMi K) := by rw [c_g hc, hK.1.1]
    rw [c_g2 hc, obS, c_r2 hc h0 (by omega), obS, hmi, obS, c_a2 hc h0 (by omega) (by omega) (by omega), obS, hh.1, c_g8 hc, obS, c_as hc, obS, obS, c_sv hc _ (by decide) (by decide), obS]
    rw [c_g8 c0, obS, c_as c0, obS, c_sv c0 _ (by decide) (by decide), obS, c_g8 c1, obS, c_as c1, obS, nrm_i (z := rk) (by omega) (by omega), nrm_i (z := k) (by omega) (by omega), c_sv c1 _ (by decide) (by decide), obS, c_g8 c2, obS, c_as c2, obS, c_sv c2 _ (by decide) (by decide), obS, c_g8 c3, obS, c_as c3, obS]
    obtain ⟨b, el, r1, r2, r3⟩ := x_rooms x3
    obtain ⟨-, gg, d, gd, s1, -, -, -, s5, -⟩ := r3 (kH K k (kMi K)) hw.1 hw.2
    rw [r1, obS, l_rcv r2, obS, l_get r2 hw.1 hw.2, bnS, kst_s s1 (by decide), obS, gI_s s1, obS, s5, c_sv c3 _ (by decide) (by decide), obS]
    rw [c_g8 c4, obS, c_as c4, obS, m4, obS, c_o c4, obS, h_menIn c4 x4 q4 hX hW (by omega) (by omega) (by omega) (Int.le_refl _), bnS, h_bits _ _ (Nat.lt_of_lt_of_le (mIn_lt X hX K _ _) (by decide)), bnS, c_sv c4 _ (by decide) (by decide), obS]
    obtain ⟨v5, hv5, hl5⟩ := x_late x5
    have hlc := hl.same (agr_chg w5 fun x hxz h => by
      rcases h with h | h
      · rw [h] at hxz; exact hZ 45 (by decide) hxz
      · rw [h] at hxz; exact hZ 46 (by decide) hxz)
    have hg6 : gR (wr (wr (wr (wr (wr (wr σ (a + 46) 0 (kMi K)) (a + 46) 1 (kH K k (kMi K))) (a + 46) 2 rk) (a + 46) 3 k) (a + 46) 4 (wys X (kH K k (kMi K)))) (a + 46) 5 (pcn (mIn X K (kH K k (kMi K)) (kMi K)))) 4 (some r) 6 = some (some l) := by
      obtain ⟨hz, g, a1, a2, a3, e1, e2, e3, h1, -⟩ := hx
      have e9 := (w5.2.1 r).trans h1
      rw [gR_s e9]
      rw [gR_s h1] at hv
      exact hv
    obtain ⟨hzl, ⟨gl, hsl⟩, hlaw⟩ := hlc
    obtain ⟨-, -, -, -, -, -, -, -, -, ⟨g45, e45, f45⟩, ⟨g46, e46⟩⟩ := c5
    obtain ⟨τ', f1, f2, f3⟩ := hlaw _ (fun _ _ => rfl) (a + 45) (a + 46) g45 g46 e45 f45 e46 (hZ 45 (by decide)) (hZ 46 (by decide)) (by omega)
    rw [hg6, obS, c_g8 (st _ w5).1, obS, rcv_s hsl, obS, f1, bnS]
    refine ⟨τ', ?_, w5.tr (f2.up fun x hx => Or.inl hx)⟩
    rw [mx_mn _ f3]
    have hci : ∀ j : Int, ci (wr (wr (wr (wr (wr (wr σ (a + 46) 0 (kMi K)) (a + 46) 1 (kH K k (kMi K))) (a + 46) 2 rk) (a + 46) 3 k) (a + 46) 4 (wys X (kH K k (kMi K)))) (a + 46) 5 (pcn (mIn X K (kH K k (kMi K)) (kMi K)))) (a + 46) j = fu (fu (fu (fu (fu (fu (ci σ (a + 46)) 0 (kMi K)) 1 (kH K k (kMi K))) 2 rk) 3 k) 4 (wys X (kH K k (kMi K)))) 5 (pcn (mIn X K (kH K k (kMi K)) (kMi K))) j := by
      intro j
      have z0 : shp σ (a + 46) = some (100, 6, g46) := by rw [← w5.2.1]; exact e46
      rw [wr_ci (h := by rw [wr_shp, wr_shp, wr_shp, wr_shp, wr_shp]; exact z0), wr_ci (h := by rw [wr_shp, wr_shp, wr_shp, wr_shp]; exact z0), wr_ci (h := by rw [wr_shp, wr_shp, wr_shp]; exact z0), wr_ci (h := by rw [wr_shp, wr_shp]; exact z0), wr_ci (h := by rw [wr_shp]; exact z0), wr_ci (h := z0)]
    rw [hci, hci, hci, hci, hci, hci]
    unfold lat
    simp [fu]
/-- cells that a step of a court may write -/
def crtS (a : Nat) (x : Nat) : Prop := a ≤ x ∧ x < a + 47
theorem CatQ.wrL (h : CatQ q σ a X K) (hc : Csh σ a) (hX : WfX X) {k t : Int} (v : Int) (h0 : 0 ≤ k) (h1 : k < 8) : CatQ q (wr σ (a + 34 + k.toNat) t v) a X (setL K k t v) := by
  have a1 := hX.2.2.1
  have a4 := hX.2.2.2.1
  have hne : ∀ b : Nat, b ≠ a + 34 + k.toNat → ci (wr σ (a + 34 + k.toNat) t v) b = ci σ b := fun b hb => wr_cne σ t v hb
  refine ⟨by rw [hne a (by omega)]; exact h.1, fun m u b0 b1 b2 b3 => ?_, fun j u b0 b1 b2 b3 => ?_, fun j b0 b1 => ?_⟩
  · rw [hne _ (by omega), hne _ (by omega)]
    exact h.2.1 m u b0 b1 b2 b3
  · obtain ⟨d1, d2, d3⟩ := h.2.2.1 j u b0 b1 b2 b3
    rw [hne (a + 16 + j.toNat) (by omega), hne (a + 25 + j.toNat) (by omega)]
    refine ⟨d1, d2, fun hq => ?_⟩
    show _ = f2 (kL K) k t v j u
    by_cases e : j = k
    · subst e
      obtain ⟨-, -, -, -, -, ⟨-, f⟩, -⟩ := hc
      obtain ⟨g, hs⟩ := f j h0 h1
      rw [wr_ci σ t v hs]
      by_cases e2 : u = t
      · rw [e2, fuE, f2_eq]
      · rw [fuN _ _ e2, f2_ne _ _ (by omega)]
        exact d3 hq
    · rw [hne _ (by omega), f2_ne _ _ (by omega)]
      exact d3 hq
  · rw [hne _ (by omega), hne _ (by omega)]
    exact h.2.2.2 j b0 b1
theorem h_looks (hc : Csh σ a) (hx : TxtAt Z σ r X) (hZ : ∀ o : Nat, o < 47 → ¬ Z (a + o)) (hK : CatQ (kMi K - 1) σ a X K) (hX : WfX X) (hW : WfQ (kMi K - 1) X K) : ∃ σ' : Hp, f_X5_looks σ a (some r) = some ((), σ') ∧ Cat σ' a X (lks X K) ∧ chgH (crtS a) σ σ' := by
  have a1 := hX.2.2.1
  have a4 := hX.2.2.2.1
  have a2 := hW.1
  unfold f_X5_looks lks
  refine loop (S := Hp × Int) (fun n z => f_X5_looks_L2 a n z.1 (some r) z.2 (fun s23 => some ((), s23))) (fun o => ∃ σ' : Hp, o = some ((), σ') ∧ Cat σ' a X (lkI X K (xK X).toNat) ∧ chgH (crtS a) σ σ')
    (fun i z => z.2 = (i : Int) ∧ (CatQ (kMi K - 1) z.1 a X (lkI X K i) ∧ ∀ k : Int, 0 ≤ k → k < i → ci z.1 (a + 34 + k.toNat) (kMi K) = lat X K k (kR K (xOw X k) (kMi K))) ∧ chgH (crtS a) σ z.1) (xK X).toNat ?_ ?_ (xK X).toNat 0 FU (σ, 0) (by omega) (by rw [FU_eq]; omega) ⟨rfl, ⟨hK, fun k _ h => by omega⟩, chgH.rf _ _⟩
  · rintro n i ⟨z, b⟩ hi ⟨rfl, ⟨hq, hql⟩, hcz⟩
    dsimp only at hq hql hcz ⊢
    have hcc := hc.same hcz.2.1
    have hzx : ∀ x, Z x → ¬ crtS a x := fun x hz h => by
      unfold crtS at h
      have := hZ (x - a) (by omega)
      rw [show a + (x - a) = x by omega] at this
      exact this hz
    have hxx := hx.same (agr_chg hcz hzx)
    have hWi := lkI_wf hW i
    obtain ⟨g1, -, -, g4, -⟩ := lkI_same X K i
    have ho := (hX.2.2.2.2.2.2.2.2 i (by omega) (by omega)).2
    have hrk := (hW.2.1 (xOw X i) (kMi K) ho.1 ho.2 a2.1 (Int.le_refl _)).2
    obtain ⟨bk, ek, k1, k2, k3⟩ := x_mirrors hxx
    obtain ⟨-, gm, s1, -, s3⟩ := k3 i (by omega) (by omega)
    have hmi : gI z 5 (some a) 9 = some (kMi K) := by rw [c_g hcc, hq.1.1, g1]
    obtain ⟨σ1, e1, c1⟩ := h_lateBy (k := i) (rk := kR K (xOw X i) (kMi K)) hcc hxx hZ hq hX hWi (by omega) (by omega) hrk.1 hrk.2
    rw [lkI_lat] at e1
    have hl := clp_in (xL X (kMi K) (kH K i (kMi K)) (kR K (xOw X i) (kMi K)) i (wys X (kH K i (kMi K))) (pcn (mIn X K (kH K i (kMi K)) (kMi K))))
    have hl2 : 0 ≤ lat X K i (kR K (xOw X i) (kMi K)) ∧ lat X K i (kR K (xOw X i) (kMi K)) ≤ 240 := hl
    have hc1 := hcc.same c1.2.1
    have hq1 := hq.same c1 (fun o ho h => by unfold askS at h; omega) hX
    have hrow := (hq.2.1 (xOw X i) (kMi K) (by omega) (by omega) a2.1 (by rw [g1]; exact Int.le_refl _)).2
    rw [g4] at hrow
    right
    refine ⟨(wr σ1 (a + 34 + (i : Int).toNat) (kMi K) (lat X K i (kR K (xOw X i) (kMi K))), ((i + 1 : Nat) : Int)), ?_, rfl, ⟨?_, ?_⟩, ?_⟩
    · rw [f_X5_looks_L2, k1, obS, l_rcv k2, obS, l_size k2, bnS, nrm_i (z := xK X) (by omega) (by omega), nrm_i (z := (i : Int)) (by omega) (by omega), if_neg (by omega), c_g4 hcc, obS, c_r4 hcc (by omega) (by omega), obS, hmi, obS, c_g1 hcc, obS, k1, obS, l_rcv k2, obS, l_get k2 (by omega) (by omega), bnS, kst_s s1 (by decide), obS, gI_s s1, obS, s3, c_r1 hcc (by omega) (by omega), obS, hmi, obS, c_a1 hcc (by omega) (by omega) (by omega) (by omega), obS, hrow, c_o hcc, obS, e1, bnS, i16_i hl2.1 (by omega), i16_i hl2.1 (by omega), c_s4 hc1 _ (by omega) (by omega) (by omega) (by omega), obS]
      rfl
    · exact hq1.wrL hc1 hX _ (by omega) (by omega)
    · intro k k0 k1'
      by_cases e : k = i
      · rw [e]
        obtain ⟨-, -, -, -, -, ⟨-, f⟩, -⟩ := hc1
        obtain ⟨g, hs⟩ := f i (by omega) (by omega)
        show ci (wr σ1 _ _ _) _ _ = _
        rw [wr_ci σ1 _ _ hs, fuE]
      · show ci (wr σ1 _ _ _) _ _ = _
        rw [wr_cne σ1 _ _ (by omega), c1.num (by unfold askS; omega)]
        exact hql k k0 (by omega)
    · exact (hcz.tr (c1.up fun x h => by unfold askS at h; unfold crtS; omega)).wr (by unfold crtS; omega) _ _
  · rintro n ⟨z, b⟩ ⟨rfl, ⟨hq, hql⟩, hcz⟩
    dsimp only at hq hql hcz ⊢
    have hzx : ∀ x, Z x → ¬ crtS a x := fun x hz h => by
      unfold crtS at h
      have := hZ (x - a) (by omega)
      rw [show a + (x - a) = x by omega] at this
      exact this hz
    obtain ⟨bk, ek, k1, k2, k3⟩ := x_mirrors (hx.same (agr_chg hcz hzx))
    refine ⟨z, ?_, ?_, hcz⟩
    · rw [f_X5_looks_L2, k1, obS, l_rcv k2, obS, l_size k2, bnS, nrm_i (z := xK X) (by omega) (by omega), nrm_i (by omega) (by omega), if_pos (by omega)]
    · obtain ⟨g1, -⟩ := lkI_same X K (xK X).toNat
      refine ⟨hq.1, hq.2.1, fun k t b0 b1 b2 b3 => ⟨(hq.2.2.1 k t b0 b1 b2 b3).1, (hq.2.2.1 k t b0 b1 b2 b3).2.1, fun _ => ?_⟩, hq.2.2.2⟩
      rw [g1] at b3
      by_cases e : t = kMi K
      · rw [lkI_L X K _ k t b0, if_pos (by omega), e]
        exact hql k b0 (by omega)
      · exact (hq.2.2.1 k t b0 b1 b2 (by rw [g1]; exact b3)).2.2 (by omega)
end

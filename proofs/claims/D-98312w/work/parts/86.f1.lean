set_option maxRecDepth 100000
set_option maxHeartbeats 1000000
/-! ===== PURE: where one began ===== -/
section
variable {X : Txt} {K : Crt}
theorem lkI_Ln (X : Txt) (K : Crt) : ∀ (i : Nat) (k t : Int), k < 0 → kL (lkI X K i) k t = kL K k t := by
  intro i
  induction i with
  | zero => intro k t _; rfl
  | succ i ih =>
    intro k t hk
    show f2 (kL (lkI X K i)) i (kMi K) _ k t = _
    rw [f2_ne _ _ (by omega)]
    exact ih k t hk
theorem lks_setW (X : Txt) (K : Crt) (a v : Int) : lks X (setW (lks X K) a (kMi K) v) = lks X (setW K a (kMi K) v) := by
  obtain ⟨g1, g2, g3, g4, g5, g6, g7, g8⟩ := lkI_same X K (xK X).toNat
  have hl : ∀ k rk : Int, lat X (setW (lks X K) a (kMi K) v) k rk = lat X (setW K a (kMi K) v) k rk := by
    intro k rk
    have e1 : kMi (setW (lks X K) a (kMi K) v) = kMi (setW K a (kMi K) v) := g1
    have e2 : kH (setW (lks X K) a (kMi K) v) = kH (setW K a (kMi K) v) := g5
    have e3 : kW (setW (lks X K) a (kMi K) v) = kW (setW K a (kMi K) v) := by
      show f2 (kW (lks X K)) a (kMi K) v = f2 (kW K) a (kMi K) v
      unfold lks; rw [g3]
    unfold lat mIn
    rw [e1, e2, e3]
  obtain ⟨h1, h2, h3, h4, h5, h6, h7, h8⟩ := lkI_same X (setW (lks X K) a (kMi K) v) (xK X).toNat
  obtain ⟨i1, i2, i3, i4, i5, i6, i7, i8⟩ := lkI_same X (setW K a (kMi K) v) (xK X).toNat
  have eL : kL (lks X (setW (lks X K) a (kMi K) v)) = kL (lks X (setW K a (kMi K) v)) := by
    funext k t
    by_cases hk : 0 ≤ k
    · have e1 : kL (lks X (setW (lks X K) a (kMi K) v)) k t = _ := lkI_L X (setW (lks X K) a (kMi K) v) (xK X).toNat k t hk
      have e2 : kL (lks X (setW K a (kMi K) v)) k t = _ := lkI_L X (setW K a (kMi K) v) (xK X).toNat k t hk
      have e3 : kL (lks X K) k t = _ := lkI_L X K (xK X).toNat k t hk
      rw [e1, e2, hl]
      have m1 : kMi (setW (lks X K) a (kMi K) v) = kMi K := g1
      have m2 : kMi (setW K a (kMi K) v) = kMi K := rfl
      have m3 : kR (setW (lks X K) a (kMi K) v) = kR K := g4
      have m4 : kR (setW K a (kMi K) v) = kR K := rfl
      have m5 : kL (setW (lks X K) a (kMi K) v) k t = kL (lks X K) k t := rfl
      have m6 : kL (setW K a (kMi K) v) k t = kL K k t := rfl
      rw [m1, m2, m3, m4, m5, m6, e3]
      split <;> rfl
    · have e1 : kL (lks X (setW (lks X K) a (kMi K) v)) k t = _ := lkI_Ln X (setW (lks X K) a (kMi K) v) (xK X).toNat k t (by omega)
      have e2 : kL (lks X (setW K a (kMi K) v)) k t = _ := lkI_Ln X (setW K a (kMi K) v) (xK X).toNat k t (by omega)
      have e3 : kL (lks X K) k t = _ := lkI_Ln X K (xK X).toNat k t (by omega)
      rw [e1, e2]
      exact e3
  have key : ∀ A B : Crt, kMi A = kMi B → kSd A = kSd B → kW A = kW B → kR A = kR B → kH A = kH B → kU A = kU B → kL A = kL B → kB A = kB B → kF A = kF B → A = B := by
    rintro ⟨⟨a1, a2⟩, ⟨a3, a4, a5, a6, a7⟩, a8, a9⟩ ⟨⟨b1, b2⟩, ⟨b3, b4, b5, b6, b7⟩, b8, b9⟩ e1 e2 e3 e4 e5 e6 e7 e8 e9
    cases e1; cases e2; cases e3; cases e4; cases e5; cases e6; cases e7; cases e8; cases e9
    rfl
  refine key _ _ ?_ ?_ ?_ ?_ ?_ ?_ eL ?_ ?_
  · exact (h1.trans g1).trans i1.symm
  · exact (h2.trans g2).trans i2.symm
  · refine (h3.trans ?_).trans i3.symm
    show f2 (kW (lks X K)) a (kMi K) v = f2 (kW K) a (kMi K) v; unfold lks; rw [g3]
  · exact (h4.trans g4).trans i4.symm
  · exact (h5.trans g5).trans i5.symm
  · exact (h6.trans g6).trans i6.symm
  · exact (h7.trans g7).trans i7.symm
  · exact (h8.trans g8).trans i8.symm
theorem WfQ.setW {q : Int} (h : WfQ q X K) (m t : Int) {v : Int} (hv : 0 ≤ v ∧ v < xR X) : WfQ q X (setW K m t v) := by
  refine ⟨h.1, fun j u b0 b1 b2 b3 => ⟨?_, (h.2.1 j u b0 b1 b2 b3).2⟩, h.2.2.1, h.2.2.2⟩
  show 0 ≤ f2 (kW K) m t v j u ∧ f2 (kW K) m t v j u < xR X
  unfold f2
  split
  · exact hv
  · exact (h.2.1 j u b0 b1 b2 b3).1
/-- a court that begins, a man in a room -/
def bgW (X : Txt) (a v : Int) : Crt := lks X (setW (bg0 X) a 0 v)
theorem bgW_wf (hX : WfX X) {a v : Int} (hv : 0 ≤ v ∧ v < xR X) : WfK X (bgW X a v) := lks_wf ((bg0_wf hX).setW a 0 hv)
theorem bgW_mi (X : Txt) (a v : Int) : kMi (bgW X a v) = 0 ∧ kSd (bgW X a v) = xS X := ⟨(lks_mi X _).1, (lks_mi X _).2⟩
end
/- what was told: how many, mirrors, minutes, men, whether they were there -/
abbrev Tld : Type := Int × (Int → Int) × (Int → Int) × (Int → Int) × (Int → Int)
def WfT (X : Txt) (T : Tld) : Prop := (0 ≤ T.1 ∧ T.1 ≤ 20) ∧ ∀ i : Int, 0 ≤ i → i < T.1 → (0 ≤ T.2.1 i ∧ T.2.1 i < xK X) ∧ (0 ≤ T.2.2.1 i ∧ T.2.2.1 i ≤ 99) ∧ (0 ≤ T.2.2.2.1 i ∧ T.2.2.2.1 i < xM X) ∧ (T.2.2.2.2 i = 0 ∨ T.2.2.2.2 i = 1)
def TlC (σ : Hp) (o : Nat) (T : Tld) : Prop := ci σ o 18 = T.1 ∧ ∀ i : Int, 0 ≤ i → i < T.1 → ci σ (o + 273) i = T.2.1 i ∧ ci σ (o + 274) i = T.2.2.1 i ∧ ci σ (o + 275) i = T.2.2.2.1 i ∧ ci σ (o + 276) i = T.2.2.2.2 i
def TlT (s : TW) (T : Tld) : Prop := s.1 67 = T.1 ∧ ∀ i : Int, 0 ≤ i → i < T.1 → s.2 68 i = T.2.1 i ∧ s.2 69 i = T.2.2.1 i ∧ s.2 70 i = T.2.2.2.1 i ∧ s.2 71 i = T.2.2.2.2 i
def lsG (T : Tld) (i : Nat) (l : Int) : Int := if l < T.2.2.1 i then T.2.2.1 i else l
def lsT (T : Tld) (n : Nat) : Int := itr (lsG T) n 0
def soE (X : Txt) (T : Tld) (a v : Int) (n : Nat) : Crt := rn X (rnN (bgW X a v) (lsT T n)) (bgW X a v)
def soF (X : Txt) (T : Tld) (a v : Int) (n : Nat) (i : Nat) : Bool := decide ((if (mSh X (soE X T a v n) (T.2.1 i) (T.2.2.1 i)).testBit (T.2.2.2.1 i).toNat = true then (1 : Int) else 0) = T.2.2.2.2 i)
def soB (X : Txt) (T : Tld) (a v : Int) (n : Nat) : Bool := !anyN (fun i => !soF X T a v n i) n
def bnG (X : Txt) (T : Tld) (a : Int) (n : Nat) (i : Int) (v : Nat) (c : Int) : Int ⊕ Int := if soB X T a v n = true then (if c = i then .inr (v : Int) else .inl (c + 1)) else .inl c
def q_began (X : Txt) (T : Tld) (a k i : Int) : Int := if (0 ≤ a ∧ a < xM X) ∧ (0 ≤ k ∧ k ≤ T.1) ∧ -1 ≤ i then (match itE (bnG X T a k.toNat i) 0 (xR X).toNat 0 with | .inl n => if i = -1 then n else -1 | .inr v => v) else -1
theorem ls_in {X : Txt} {T : Tld} (hT : WfT X T) : ∀ n : Nat, (n : Int) ≤ T.1 → (0 ≤ lsT T n ∧ lsT T n ≤ 99) ∧ ∀ i : Nat, i < n → T.2.2.1 i ≤ lsT T n := by
  intro n
  induction n with
  | zero => intro _; exact ⟨⟨Int.le_refl _, show (0 : Int) ≤ 99 by decide⟩, fun i h => by omega⟩
  | succ n ih =>
    intro hn
    obtain ⟨h1, h2⟩ := ih (by omega)
    have ht := (hT.2 n (by omega) (by omega)).2.1
    have e : lsT T (n + 1) = lsG T n (lsT T n) := rfl
    rw [e]
    unfold lsG
    split
    · refine ⟨ht, fun i hi => ?_⟩
      by_cases c : i = n
      · rw [c]; exact Int.le_refl _
      · have := h2 i (by omega); omega
    · refine ⟨h1, fun i hi => ?_⟩
      by_cases c : i = n
      · rw [c]; omega
      · exact h2 i (by omega)
theorem soE_ok {X : Txt} (hX : WfX X) {T : Tld} (hT : WfT X T) {a v : Int} (hv : 0 ≤ v ∧ v < xR X) {n : Nat} (hn : (n : Int) ≤ T.1) : WfK X (soE X T a v n) ∧ kMi (soE X T a v n) = lsT T n := by
  have hl := (ls_in hT n hn).1
  have hr := rn_ok hX (bgW_wf hX (a := a) hv) (n := lsT T n) hl.1
  refine ⟨hr.1, ?_⟩
  unfold soE
  rw [hr.2, (bgW_mi X a v).1]
  unfold rnN
  rw [(bgW_mi X a v).1]
  omega
section
variable {Z : Nat → Prop} {σ σ' τ τ' : Hp} {o r b : Nat} {X : Txt} {K E : Crt} {T : Tld} {β : Type}
theorem CatQ.wrW {q : Int} {a : Nat} (h : CatQ q σ a X K) (hc : Csh σ a) (hX : WfX X) {k t : Int} (v : Int) (h0 : 0 ≤ k) (h1 : k < 6) : CatQ q (wr σ (a + 2 + k.toNat) t v) a X (setW K k t v) := by
  have a1 := hX.2.2.1
  have a4 := hX.2.2.2.1
  have hne : ∀ b : Nat, b ≠ a + 2 + k.toNat → ci (wr σ (a + 2 + k.toNat) t v) b = ci σ b := fun b hb => wr_cne σ t v hb
  refine ⟨by rw [hne a (by omega)]; exact h.1, fun m u b0 b1 b2 b3 => ?_, fun j u b0 b1 b2 b3 => ?_, fun j b0 b1 => ?_⟩
  · obtain ⟨d1, d2⟩ := h.2.1 m u b0 b1 b2 b3
    rw [hne (a + 9 + m.toNat) (by omega)]
    refine ⟨?_, d2⟩
    show _ = f2 (kW K) k t v m u
    by_cases e : m = k
    · subst e
      obtain ⟨-, ⟨-, f⟩, -⟩ := hc
      obtain ⟨g, hs⟩ := f m h0 h1
      rw [wr_ci σ t v hs]
      by_cases e2 : u = t
      · rw [e2, fuE, f2_eq]
      · rw [fuN _ _ e2, f2_ne _ _ (by omega)]
        exact d1
    · rw [hne _ (by omega), f2_ne _ _ (by omega)]
      exact d1
  · rw [hne _ (by omega), hne _ (by omega), hne _ (by omega)]
    exact h.2.2.1 j u b0 b1 b2 b3
  · rw [hne _ (by omega), hne _ (by omega)]
    exact h.2.2.2 j b0 b1
theorem CatQ.le {q q' : Int} {a : Nat} (h : CatQ q σ a X K) (hq : q' ≤ q) : CatQ q' σ a X K := ⟨h.1, h.2.1, fun k t b0 b1 b2 b3 => ⟨(h.2.2.1 k t b0 b1 b2 b3).1, (h.2.2.1 k t b0 b1 b2 b3).2.1, fun g => (h.2.2.1 k t b0 b1 b2 b3).2.2 (by omega)⟩, h.2.2.2⟩
theorem WfQ.le {q q' : Int} (h : WfQ q X K) (hq : q' ≤ q) : WfQ q' X K := ⟨h.1, h.2.1, fun k t b0 b1 b2 b3 => ⟨(h.2.2.1 k t b0 b1 b2 b3).1, (h.2.2.1 k t b0 b1 b2 b3).2.1, fun g => (h.2.2.1 k t b0 b1 b2 b3).2.2 (by omega)⟩, h.2.2.2⟩
theorem TlC.chg (h : TlC σ o T) (q : chgQ o σ τ) : TlC τ o T := by
  refine ⟨by rw [q.2 18 (by decide)]; exact h.1, fun i i0 i1 => ?_⟩
  rw [q.1.num (a := o + 273) (by unfold qS; omega), q.1.num (a := o + 274) (by unfold qS; omega), q.1.num (a := o + 275) (by unfold qS; omega), q.1.num (a := o + 276) (by unfold qS; omega)]
  exact h.2 i i0 i1
/-- the trial of one that began in a room -/
theorem h_soTrial (I : QI Z σ o r X K) {a v l : Int} (a0' : 0 ≤ a) (a1' : a < xM X) (hv : 0 ≤ v ∧ v < xR X) (l0 : 0 ≤ l) (l1 : l ≤ 99) (kk : Hp → Option (Int × Hp)) :
    ∃ σ' : Hp, ((gR σ 0 (some o) 8).bind fun v5 => (gR σ 0 (some o) 3).bind fun v6 => (rcv σ 5 v5).bind fun b8 => bn (f_X5_begins σ b8 v6) fun _ s7 => (gR s7 0 (some o) 8).bind fun v9 => (gR s7 5 v9 0).bind fun v10 => (aR s7 105 v10 a).bind fun v11 => (sI s7 101 v11 0 (i8I (i8I v))).bind fun s12 => (gR s12 0 (some o) 8).bind fun v13 => (gR s12 0 (some o) 3).bind fun v14 => (rcv s12 5 v13).bind fun b16 => bn (f_X5_looks s12 b16 v14) fun _ s15 => (gR s15 0 (some o) 8).bind fun v17 => (rcv s15 0 (some o)).bind fun b19 => bn (f_X0_runs s15 b19 v17 l) fun _ s18 => kk s18) = kk σ' ∧ CI Z σ' (o + 61) r X (rn X (rnN (bgW X a v) l) (bgW X a v)) ∧ chgQ o σ σ' := by
  obtain ⟨hO, hx, hZ, hK, hX, hW⟩ := I
  have I : QI Z σ o r X K := ⟨hO, hx, hZ, hK, hX, hW⟩
  have J := I.ci
  have hc := hO.court
  have a0 := hX.1
  have a1 := hX.2.2.1
  have a4 := hX.2.2.2.1
  have a2 := hW.1
  have qT : ∀ {y z : Hp}, chgH (crtS (o + 61)) y z → chgQ o y z := fun c => chgQ.of c (fun x hx => by unfold crtS at hx; unfold qS; omega)
  obtain ⟨σ1, e1, k1, c1⟩ := h_begins hO.trial hx I.zt hX
  have I1 := I.chg (qT c1)
  have hc1 := I1.1.trial
  have cw : chgH (crtS (o + 61)) σ1 (wr σ1 (o + 61 + 2 + a.toNat) 0 v) := (chgH.rf (crtS (o + 61)) σ1).wr (by unfold crtS; omega) 0 v
  have I2 := I1.chg (qT cw)
  have hm0 : kMi (lks X (bg0 X)) = 0 := (lks_mi X (bg0 X)).1
  have kw : CatQ (-1) (wr σ1 (o + 61 + 2 + a.toNat) 0 v) (o + 61) X (setW (lks X (bg0 X)) a 0 v) := CatQ.wrW (k1.le (by omega)) hc1 hX v a0' (by omega)
  have hwf : WfQ (-1) X (setW (lks X (bg0 X)) a 0 v) := ((lks_wf (bg0_wf hX)).le (by omega)).setW a 0 hv
  have hmw : kMi (setW (lks X (bg0 X)) a 0 v) = 0 := hm0
  obtain ⟨σ3, e3, k3, c3⟩ := h_looks I2.1.trial I2.2.1 I2.zt (K := setW (lks X (bg0 X)) a 0 v) (by rw [hmw]; exact kw) hX (by rw [hmw]; exact hwf)
  have eb : lks X (setW (lks X (bg0 X)) a 0 v) = bgW X a v := lks_setW X (bg0 X) a v
  rw [eb] at k3
  have I3 := I2.chg (qT c3)
  obtain ⟨σ4, e4, J4, q4⟩ := h_runsT I3 k3 (bgW_wf hX hv) (n := l) l0 (by omega)
  refine ⟨σ4, ?_, J4, ((qT c1).tr (qT cw)).tr ((qT c3).tr q4)⟩
  rw [o_g8 hO, o_g3 hO, c_ob hO.trial, bnP e1, o_g8 I1.1, c_g0b hc1, c_r0b hc1 a0' (by omega), i8_i (z := v) (by omega) (by omega), i8_i (z := v) (by omega) (by omega), c_s0b hc1 _ a0' (by omega) (by decide) (by decide), o_g8 I2.1, o_g3 I2.1, c_ob I2.1.trial, bnP e3, o_g8 I3.1, o_rcv I3.1, bnP e4]
theorem h_isSo (I : QI Z σ o r X K) (hT : WfT X T) (hC : TlC σ o T) {a v : Int} (a0' : 0 ≤ a) (a1' : a < xM X) (hv : 0 ≤ v ∧ v < xR X) {n : Nat} (hn : (n : Int) ≤ T.1) : ∃ σ' : Hp, f_X0_isSo σ o a v (n : Int) = some (if soB X T a v n = true then 1 else 0, σ') ∧ chgQ o σ σ' := by
  obtain ⟨hO, hx, hZ, hK, hX, hW⟩ := I
  have I : QI Z σ o r X K := ⟨hO, hx, hZ, hK, hX, hW⟩
  have J := I.ci
  have hc := hO.court
  have a0 := hX.1
  have a1 := hX.2.2.1
  have a4 := hX.2.2.2.1
  have a2 := hW.1
  have hls := ls_in hT
  have hT1 := hT.1
  unfold f_X0_isSo
  -- the last minute
  have lp1 : ∀ kk : Hp → Int → Int → Int → Int → Option (Int × Hp), f_X0_isSo_L6 o FU σ a v (n : Int) 0 0 kk = kk σ a v (n : Int) (lsT T n) := by
    intro kk
    obtain ⟨e, -⟩ := loopI (fun fl (l : Int) i => f_X0_isSo_L6 o fl σ a v (n : Int) l i kk) (fun l => kk σ a v (n : Int) l) (lsG T) (fun i l => 0 ≤ l ∧ l ≤ 99) n 0 (fl := FU) (a0 := 0) (by rw [FU_eq]; omega) ⟨by decide, by decide⟩ (fun fl i l hi hp => by
        have ht := (hT.2 i (by omega) (by omega)).2.1
        have hc := (hC.2 i (by omega) (by omega)).2.1
        have e20 : ∀ {β : Type} (f : Int → Option β), (aI σ 100 (some (o + 274)) i).bind f = f (T.2.2.1 i) := fun f => by rw [o_a274 hO (by omega) (by omega), hc]
        rw [f_X0_isSo_L6, Int.zero_add, nrm_i (by omega) (by omega), nrm_i (by omega) (by omega), if_neg (by omega), o_g20 hO, e20]
        unfold lsG mxI
        rw [nrm_i (z := l) (by omega) (by omega), nrm_i (z := T.2.2.1 i) (by omega) (by omega)]
        refine ⟨rfl, ?_⟩
        split <;> omega)
      (fun fl l hp => by
        rw [f_X0_isSo_L6, nrm_i (by omega) (by omega), nrm_i (by omega) (by omega), if_pos (by omega)])
    exact e
  rw [lp1]
  obtain ⟨σ1, e1, J1, q1⟩ := h_soTrial I a0' a1' hv (hls n hn).1.1 (hls n hn).1.2 (fun s18 => f_X0_isSo_L80 o FU s18 (n : Int) 0 (fun s37 => some (1, s37)))
  refine ⟨σ1, ?_, q1⟩
  refine e1.trans ?_
  have I1 := I.chg q1
  have hO1 := I1.1
  have hC1 := hC.chg q1
  have hE := soE_ok hX hT (a := a) hv hn
  have J1 : CI Z σ1 (o + 61) r X (soE X T a v n) := J1
  have e := loopF (fun fl i => f_X0_isSo_L80 o fl σ1 (n : Int) i (fun s37 => some (1, s37))) (some (1, σ1)) (fun _ => some (0, σ1)) (fun i => !soF X T a v n i) n 0 (fl := FU) (by rw [FU_eq]; omega) (fun fl i hi => by
      have ht := hT.2 i (by omega) (by omega)
      have hc := hC1.2 i (by omega) (by omega)
      have hlt := (hls n hn).2 i hi
      have e19 : ∀ {β : Type} (f : Int → Option β), (aI σ1 100 (some (o + 273)) i).bind f = f (T.2.1 i) := fun f => by rw [o_a273 hO1 (by omega) (by omega), hc.1]
      have e20 : ∀ {β : Type} (f : Int → Option β), (aI σ1 100 (some (o + 274)) i).bind f = f (T.2.2.1 i) := fun f => by rw [o_a274 hO1 (by omega) (by omega), hc.2.1]
      have e21 : ∀ {β : Type} (f : Int → Option β), (aI σ1 100 (some (o + 275)) i).bind f = f (T.2.2.2.1 i) := fun f => by rw [o_a275 hO1 (by omega) (by omega), hc.2.2.1]
      have e22 : ∀ {β : Type} (f : Int → Option β), (aI σ1 102 (some (o + 276)) i).bind f = f (T.2.2.2.2 i) := fun f => by rw [o_a276 hO1 (by omega) (by omega), hc.2.2.2]
      have hm := mSh_lt (K := soE X T a v n) hX (T.2.1 i) (T.2.2.1 i)
      rw [f_X0_isSo_L80, Int.zero_add, nrm_i (by omega) (by omega), nrm_i (by omega) (by omega), if_neg (by omega), o_g8 hO1, o_g3 hO1, o_g19 hO1, e19, o_g20 hO1, e20, c_ob hO1.trial, hb_menShown J1 ht.1.1 ht.1.2 ht.2.1.1 (by omega), o_g21 hO1, e21, jnS, srb ht.2.2.1.1 (by omega) (by omega)]
      unfold soF
      by_cases d : (mSh X (soE X T a v n) (T.2.1 i) (T.2.2.1 i)).testBit (T.2.2.2.1 i).toNat = true
      · rw [if_pos d, if_neg (by decide)]
        dsimp only
        rw [o_g22 hO1, e22]
        rcases ht.2.2.2 with h | h
        · rw [h, if_neg (by decide), if_pos (by decide)]
        · rw [h, if_pos (by decide), if_neg (by decide)]
      · rw [if_neg d, if_pos (by decide)]
        dsimp only
        rw [o_g22 hO1, e22]
        rcases ht.2.2.2 with h | h
        · rw [h, if_pos (by decide), if_neg (by decide)]
        · rw [h, if_neg (by decide), if_pos (by decide)])
    (fun fl => by
      rw [f_X0_isSo_L80, nrm_i (by omega) (by omega), nrm_i (by omega) (by omega), if_pos (by omega)])
  refine e.trans ((fnd_if _ _ _ _).trans ?_)
  unfold soB
  cases anyN (fun i => !soF X T a v n i) n with
  | true => rfl
  | false => rfl
theorem h_began (I : QI Z σ o r X K) (hT : WfT X T) (hC : TlC σ o T) {a k i : Int} (wa : wd a) (wk : wd k) (wi : wd i) : ∃ σ' : Hp, f_X0_began σ o a k i = some (q_began X T a k i, σ') ∧ chgQ o σ σ' := by
  obtain ⟨hO, hx, hZ, hK, hX, hW⟩ := I
  have I : QI Z σ o r X K := ⟨hO, hx, hZ, hK, hX, hW⟩
  have J := I.ci
  have hc := hO.court
  have a0 := hX.1
  have a1 := hX.2.2.1
  have a4 := hX.2.2.2.1
  have a2 := hW.1
  have hT1 := hT.1
  have e18 : ∀ {β : Type} (f : Int → Option β), (gI σ 0 (some o) 18).bind f = f T.1 := fun f => by rw [o_gI hO, hC.1]
  unfold f_X0_began q_began
  by_cases G : (0 ≤ a ∧ a < xM X) ∧ (0 ≤ k ∧ k ≤ T.1) ∧ -1 ≤ i
  · rw [if_pos G]
    obtain ⟨c1, c2, c3⟩ := G
    have key : ∀ (j v n : Nat) (c : Int) (τ : Hp), v + j = (xR X).toNat → j < n → chgQ o σ τ → 0 ≤ c → c ≤ v → ∃ σ' : Hp, f_X0_began_L33 o n τ a k i c (v : Int) (fun s16 x3 x4 => (if ¬ nrm x3 = nrm (-1) then (some ((-1), s16)) else (some (nrm x4, s16)))) = some ((match itE (bnG X T a k.toNat i) v j c with | .inl n => if i = -1 then n else -1 | .inr v => v), σ') ∧ chgQ o σ σ' := by
      intro j
      induction j with
      | zero =>
        intro v n c τ hv hn hq c0 cv
        obtain ⟨n, rfl⟩ : ∃ q, n = q + 1 := ⟨n - 1, by omega⟩
        have I2 := I.chg hq
        refine ⟨τ, ?_, hq⟩
        rw [f_X0_began_L33, o_rcv I2.1, h_rooms I2, nrm_i (z := xR X) (by omega) (by omega), nrm_i (z := (v : Int)) (by omega) (by omega), if_pos (by omega), itE, nrm_i (z := i) (by omega) (by omega), nrm_i (z := c) (by omega) (by omega), nrm_i (z := -1) (by decide) (by decide)]
        dsimp only
        by_cases d : i = -1
        · rw [if_neg (fun h => h d), if_pos d]
        · rw [if_pos d, if_neg d]
      | succ j ih =>
        intro v n c τ hv hn hq c0 cv
        obtain ⟨n, rfl⟩ : ∃ q, n = q + 1 := ⟨n - 1, by omega⟩
        have I2 := I.chg hq
        obtain ⟨τ1, e1, q1⟩ := h_isSo I2 hT (hC.chg hq) (a := a) (v := v) c1.1 c1.2 ⟨by omega, by omega⟩ (n := k.toNat) (by omega)
        rw [show ((k.toNat : Nat) : Int) = k by omega] at e1
        have eb : itE (bnG X T a k.toNat i) v (j + 1) c = match bnG X T a k.toNat i v c with | .inl a' => itE (bnG X T a k.toNat i) (v + 1) j a' | .inr w => .inr w := by rw [itE]; cases bnG X T a k.toNat i v c <;> rfl
        rw [f_X0_began_L33, o_rcv I2.1, h_rooms I2, nrm_i (z := xR X) (by omega) (by omega), nrm_i (z := (v : Int)) (by omega) (by omega), if_neg (by omega), o_rcv I2.1, bnP e1, eb]
        unfold bnG
        by_cases d : soB X T a v k.toNat = true
        · rw [if_pos d, if_pos d, if_pos (by decide), nrm_i (z := c) (by omega) (by omega), nrm_i (z := i) (by omega) (by omega)]
          by_cases d2 : c = i
          · rw [if_neg (fun h => h d2), if_pos d2]
            exact ⟨τ1, rfl, hq.tr q1⟩
          · rw [if_pos d2, if_neg d2]
            exact ih (v + 1) n (c + 1) τ1 (by omega) (by omega) (hq.tr q1) (by omega) (by omega)
        · rw [if_neg d, if_neg d, if_neg (by decide)]
          exact ih (v + 1) n c τ1 (by omega) (by omega) (hq.tr q1) c0 (by omega)
    obtain ⟨σ', e9, q9⟩ := key (xR X).toNat 0 FU 0 σ (by omega) (by rw [FU_eq]; omega) (chgQ.rf _ _) (Int.le_refl _) (Int.le_refl _)
    have e9 : f_X0_began_L33 o FU σ a k i 0 0 (fun s16 x3 x4 => (if ¬ nrm x3 = nrm (-1) then (some ((-1), s16)) else (some (nrm x4, s16)))) = _ := e9
    refine ⟨σ', ?_, q9⟩
    clear key
    simp (disch := omega) only [↓reduceIte, Bool.false_eq_true, nrm_i, ltT, ltF, leT, leF, eqT, eqF, not_true_eq_false, not_false_eq_true, and_self, and_true, true_and, false_and, and_false, or_true, true_or, or_false, false_or, ↓btS, ↓bnS, ↓bdS, ↓jnS, ↓obS, ↓i_t, ↓man_t I, ↓o_rcv hO, ↓e18, ↓e9]
  · rw [if_neg G]
    refine ⟨σ, ?_, chgQ.rf _ _⟩
    by_cases c1 : 0 ≤ a ∧ a < xM X
    · by_cases c2 : 0 ≤ k ∧ k ≤ T.1
      · by_cases c3 : -1 ≤ i
        · exact absurd ⟨c1, c2, c3⟩ G
        · simp (disch := omega) only [↓reduceIte, Bool.false_eq_true, nrm_i, ltT, ltF, leT, leF, eqT, eqF, not_true_eq_false, not_false_eq_true, and_self, and_true, true_and, false_and, and_false, or_true, true_or, or_false, false_or, ↓btS, ↓bnS, ↓bdS, ↓jnS, ↓obS, ↓i_t, ↓i_f, ↓man_t I, ↓man_f I, ↓o_rcv hO, ↓e18]
      · simp (disch := omega) only [↓reduceIte, Bool.false_eq_true, nrm_i, ltT, ltF, leT, leF, eqT, eqF, not_true_eq_false, not_false_eq_true, and_self, and_true, true_and, false_and, and_false, or_true, true_or, or_false, false_or, ↓btS, ↓bnS, ↓bdS, ↓jnS, ↓obS, ↓i_t, ↓i_f, ↓man_t I, ↓man_f I, ↓o_rcv hO, ↓e18]
    · simp (disch := omega) only [↓reduceIte, Bool.false_eq_true, nrm_i, ltT, ltF, leT, leF, eqT, eqF, not_true_eq_false, not_false_eq_true, and_self, and_true, true_and, false_and, and_false, or_true, true_or, or_false, false_or, ↓btS, ↓bnS, ↓bdS, ↓jnS, ↓obS, ↓i_t, ↓i_f, ↓man_t I, ↓man_f I, ↓o_rcv hO, ↓e18]
end

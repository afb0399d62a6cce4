set_option maxRecDepth 100000
set_option maxHeartbeats 4000000
/-! ===== PURE: what would be ===== -/
/-- the number of minutes that go by -/
def rnN (K : Crt) (n : Int) : Nat := (min n (299 - kMi K)).toNat
def kEnd (X : Txt) (K : Crt) : Crt := rn X (rnN K 300) K
section
variable {Z : Nat → Prop} {σ σ' : Hp} {o r a : Nat} {X : Txt} {K : Crt} {β : Type}
theorem h_runs (hO : Osh σ o r) (hc : Csh σ a) (hx : TxtAt Z σ r X) (hZ : ∀ k : Nat, k < 47 → ¬ Z (a + k)) (hK : Cat σ a X K) (hX : WfX X) (hW : WfK X K) {n : Int} (n0 : 0 ≤ n) (n1 : n ≤ 1000) : ∃ σ' : Hp, f_X0_runs σ o (some a) n = some ((), σ') ∧ Cat σ' a X (rn X (rnN K n) K) ∧ chgH (crtS a) σ σ' := by
  unfold f_X0_runs
  have key : ∀ (j fl : Nat) (i : Int) (σ : Hp) (K : Crt), Osh σ o r → Csh σ a → TxtAt Z σ r X → Cat σ a X K → WfK X K → 0 ≤ i → i ≤ n → rnN K (n - i) = j → j < fl → ∃ σ' : Hp, f_X0_runs_L2 o fl σ (some a) n i (fun s7 => some ((), s7)) = some ((), σ') ∧ Cat σ' a X (rn X j K) ∧ chgH (crtS a) σ σ' := by
    intro j
    induction j with
    | zero =>
      intro fl i σ K hO hc hx hK hW i0 i1 hj hf
      obtain ⟨fl, rfl⟩ : ∃ q, fl = q + 1 := ⟨fl - 1, by omega⟩
      have a2 := hW.1
      unfold rnN at hj
      refine ⟨σ, ?_, hK, chgH.rf _ _⟩
      rw [f_X0_runs_L2, nrm_i (z := n) (by omega) (by omega), nrm_i (z := i) (by omega) (by omega)]
      by_cases d : n ≤ i
      · rw [if_pos d]
      · rw [if_neg d, c_g hc, obS, hK.1.1, nrm_i (z := 300) (by decide) (by decide), nrm_i (by omega) (by omega), if_pos (by omega)]
    | succ j ih =>
      intro fl i σ K hO hc hx hK hW i0 i1 hj hf
      obtain ⟨fl, rfl⟩ : ∃ q, fl = q + 1 := ⟨fl - 1, by omega⟩
      have a2 := hW.1
      have hj2 := hj
      unfold rnN at hj2
      obtain ⟨σ1, e1, k1, c1⟩ := h_goesBy hc hx hZ hK hX hW (by omega)
      have hm := stp_mi X K
      obtain ⟨σ2, e2, k2, c2⟩ := ih fl (i + 1) σ1 (stp X K) (hO.chg c1) (hc.same c1.2.1) (hx.same (agr_chg c1 (hz_x hZ))) k1 (stp_wf hX hW (by omega)) (by omega) (by omega) (by unfold rnN; rw [hm.1]; omega) (by omega)
      refine ⟨σ2, ?_, k2, c1.tr c2⟩
      rw [f_X0_runs_L2, nrm_i (z := n) (by omega) (by omega), nrm_i (z := i) (by omega) (by omega), if_neg (by omega), c_g hc, obS, hK.1.1, nrm_i (z := 300) (by decide) (by decide), nrm_i (by omega) (by omega), if_neg (by omega), o_g3 hO, c_o hc, obS, bnP e1, e2]
  exact key _ _ 0 σ K hO hc hx hK hW (Int.le_refl _) n0 (by rw [Int.sub_zero]) (by have := hW.1; unfold rnN; rw [FU_eq]; omega)
theorem rnN_in (hW : WfK X K) {n : Int} (n0 : 0 ≤ n) : kMi K + rnN K n ≤ 299 := by
  have := hW.1
  unfold rnN
  omega
theorem rn_ok (hX : WfX X) (hW : WfK X K) {n : Int} (n0 : 0 ≤ n) : WfK X (rn X (rnN K n) K) ∧ kMi (rn X (rnN K n) K) = kMi K + rnN K n := ⟨rn_wf hX _ _ hW (rnN_in hW n0), (rn_mi X _ K).1⟩
theorem kEnd_ok (hX : WfX X) (hW : WfK X K) : WfK X (kEnd X K) ∧ kMi (kEnd X K) = 299 := by
  have h := rn_ok hX hW (n := 300) (by decide)
  have a2 := hW.1
  refine ⟨h.1, ?_⟩
  unfold kEnd
  rw [h.2]
  unfold rnN
  omega
/-- a trial -/
theorem h_trial (I : QI Z σ o r X K) : ∃ σ' : Hp, f_X5_takes σ (o + 61) (some (o + 14)) = some ((), σ') ∧ Cat σ' (o + 61) X K ∧ chgQ o σ σ' := by
  obtain ⟨hO, hx, hZ, hK, hX, hW⟩ := I
  have I : QI Z σ o r X K := ⟨hO, hx, hZ, hK, hX, hW⟩
  have J := I.ci
  have hc := hO.court
  have a0 := hX.1
  have a1 := hX.2.2.1
  have a4 := hX.2.2.2.1
  have a2 := hW.1
  obtain ⟨σ', e, k, c⟩ := h_takes hO.trial hc (Or.inr (by omega)) hK hX hW
  exact ⟨σ', e, k, chgQ.of c (fun x hx => by unfold crtS at hx; unfold qS; omega)⟩
theorem h_runsT (I : QI Z σ o r X K) {K2 : Crt} (hK2 : Cat σ (o + 61) X K2) (hW2 : WfK X K2) {n : Int} (n0 : 0 ≤ n) (n1 : n ≤ 1000) : ∃ σ' : Hp, f_X0_runs σ o (some (o + 61)) n = some ((), σ') ∧ CI Z σ' (o + 61) r X (rn X (rnN K2 n) K2) ∧ chgQ o σ σ' := by
  obtain ⟨hO, hx, hZ, hK, hX, hW⟩ := I
  have I : QI Z σ o r X K := ⟨hO, hx, hZ, hK, hX, hW⟩
  have J := I.ci
  have hc := hO.court
  have a0 := hX.1
  have a1 := hX.2.2.1
  have a4 := hX.2.2.2.1
  have a2 := hW.1
  obtain ⟨σ', e, k, c⟩ := h_runs hO hO.trial hx I.zt hK2 hX hW2 n0 n1
  have q := chgQ.of (o := o) c (fun x hx => by unfold crtS at hx; unfold qS; omega)
  have I2 := I.chg q
  exact ⟨σ', e, ⟨I2.1.trial, I2.2.1, k, hX, (rn_ok hX hW2 n0).1⟩, q⟩
theorem h_goesToEnd (I : QI Z σ o r X K) : ∃ σ' : Hp, f_X0_goesToEnd σ o = some ((), σ') ∧ CI Z σ' (o + 61) r X (kEnd X K) ∧ chgQ o σ σ' := by
  obtain ⟨σ1, e1, k1, q1⟩ := h_trial I
  have I1 := I.chg q1
  obtain ⟨σ2, e2, k2, q2⟩ := h_runsT I1 k1 I.2.2.2.2.2 (n := 300) (by decide) (by decide)
  refine ⟨σ2, ?_, k2, q1.tr q2⟩
  unfold f_X0_goesToEnd
  rw [o_g8 I.1, o_g7 I.1, c_ob I.1.trial, bnP e1, o_g8 I1.1, o_rcv I1.1, bnP e2]
end
section
variable {s s' : TW} {X : Txt} {K : Crt} {β : Type}
theorem t_till (J : TI s X K) (hl : s.1 60 = kSd K) {n : Int} (n0 : 0 ≤ n) (n1 : n ≤ 300) : ∃ s' : TW, f_X8_goesTill s (kMi K + n) = some ((), s') ∧ TI s' X (rn X (rnN K n) K) ∧ chg [49, 50, 56, 58, 59] [51, 57] s s' := by
  have a2 := J.2.2.2.1
  obtain ⟨s', e, h1, h2⟩ := t_goesTill J.1 J.2.1 J.2.2.1 J.2.2.2 hl (u := kMi K + n) (by omega) (by omega)
  have e2 : tilN K (kMi K + n) = rnN K n := by unfold tilN rnN; omega
  rw [e2] at h1
  exact ⟨s', e, ⟨J.1, J.2.1.same (h2.text (by decide) (by decide)), h1, (rn_ok J.1 J.2.2.2 n0).1⟩, h2⟩
theorem t_fillsAll (Q : TQ s X K) (hsd : kSd K = xS X) : ∃ s' : TW, f_X8_fillsAll s = some ((), s') ∧ TI s' X (kEnd X K) ∧ s'.1 53 = kMi K ∧ chg qk qf s s' := by
  obtain ⟨hX, hs, hn, hW⟩ := Q
  have Q : TQ s X K := ⟨hX, hs, hn, hW⟩
  have hmi := Q.mi
  have a0 := hX.1
  have a1 := hX.2.2.1
  have a4 := hX.2.2.2.1
  have a3 := hs.1
  have a2 := hW.1
  obtain ⟨s1, e1, J, l1, C⟩ := Q.copies
  have C := C.up (ks' := qk) (fs' := qf) (by decide) (by decide)
  have b3 := J.2.1.1
  have jmi := J.mi
  obtain ⟨s2, e2, J2, c2⟩ := t_till J (l1.trans hsd.symm) (n := 299 - kMi K) (by omega) (by omega)
  have e3 : rnN K (299 - kMi K) = rnN K 300 := by unfold rnN; omega
  rw [e3] at J2
  rw [show kMi K + (299 - kMi K) = 299 by omega] at e2
  have c3 : chg qk qf s s2 := C.tr (c2.up (by decide) (by decide))
  refine ⟨s2, ?_, J2, (c3.2 53 (by decide)).trans hmi, c3⟩
  unfold f_X8_fillsAll
  rw [btP e1, btP e2]
end
/-! ===== what was stays so ===== -/
section
variable {X : Txt} {K : Crt}
theorem bI_B (X : Txt) (K : Crt) (k : Int) : ∀ i : Nat, (kB (bI X K i) k = kB K k ∧ kF (bI X K i) k = kF K k) ∨ (kB K k = 300 ∧ kB (bI X K i) k = kMi K) := by
  intro i
  induction i with
  | zero => exact Or.inl ⟨rfl, rfl⟩
  | succ i ih =>
    rw [bI]
    split
    · next h =>
      show (fu (kB (bI X K i)) i (kMi K) k = kB K k ∧ fu (kF (bI X K i)) i _ k = kF K k) ∨ (kB K k = 300 ∧ fu (kB (bI X K i)) i (kMi K) k = kMi K)
      by_cases e : k = i
      · subst e
        rw [fuE, fuE]
        right
        rcases ih with g | g
        · exact ⟨g.1.symm.trans h.1, rfl⟩
        · exact ⟨g.1, rfl⟩
      · rw [fuN _ _ e, fuN _ _ e]
        exact ih
    · exact ih
theorem stp_old (X : Txt) (K : Crt) {t : Int} (h : t ≤ kMi K) (m : Int) (hm : 0 ≤ m) : kW (stp X K) m t = kW K m t ∧ kR (stp X K) m t = kR K m t ∧ kH (stp X K) m t = kH K m t ∧ kU (stp X K) m t = kU K m t ∧ kL (stp X K) m t = kL K m t := by
  have e := (bI_same X (lks X (stp0 X K)) (xK X).toNat).2
  obtain ⟨g1, -, g3, g4, g5, g6, -⟩ := lkI_same X (stp0 X K) (xK X).toNat
  have n1 : ∀ f g : Int → Int → Int, nx f g (kMi K) m t = f m t := fun f g => by unfold nx; rw [if_neg (by omega)]
  refine ⟨?_, ?_, ?_, ?_, ?_⟩
  · show (bI X (lks X (stp0 X K)) (xK X).toNat).2.1.1 m t = _
    rw [e]
    show kW (lks X (stp0 X K)) m t = _
    unfold lks
    rw [g3]
    exact n1 (kW K) (fun m _ => gto X K m)
  · show (bI X (lks X (stp0 X K)) (xK X).toNat).2.1.2.1 m t = _
    rw [e]
    show kR (lks X (stp0 X K)) m t = _
    unfold lks
    rw [g4]
    exact n1 (kR K) (kR K)
  · show (bI X (lks X (stp0 X K)) (xK X).toNat).2.1.2.2.1 m t = _
    rw [e]
    show kH (lks X (stp0 X K)) m t = _
    unfold lks
    rw [g5]
    exact n1 (kH K) (kH K)
  · show (bI X (lks X (stp0 X K)) (xK X).toNat).2.1.2.2.2.1 m t = _
    rw [e]
    show kU (lks X (stp0 X K)) m t = _
    unfold lks
    rw [g6]
    exact n1 (kU K) (kU K)
  · show (bI X (lks X (stp0 X K)) (xK X).toNat).2.1.2.2.2.2 m t = _
    rw [e]
    show kL (lks X (stp0 X K)) m t = _
    unfold lks
    rw [lkI_L X (stp0 X K) _ m t hm, if_neg]
    · rfl
    · intro h2
      have : t = kMi K + 1 := h2.1
      omega
theorem stp_B (X : Txt) (K : Crt) (k : Int) : (kB (stp X K) k = kB K k ∧ kF (stp X K) k = kF K k) ∨ (kB K k = 300 ∧ kB (stp X K) k = kMi K + 1) := by
  obtain ⟨g1, -, -, -, -, -, g7, g8⟩ := lkI_same X (stp0 X K) (xK X).toNat
  have h := bI_B X (lks X (stp0 X K)) k (xK X).toNat
  have e1 : kB (lks X (stp0 X K)) k = kB K k := by unfold lks; rw [g7]; rfl
  have e2 : kF (lks X (stp0 X K)) k = kF K k := by unfold lks; rw [g8]; rfl
  have e3 : kMi (lks X (stp0 X K)) = kMi K + 1 := (lks_mi X (stp0 X K)).1
  rw [e1, e2, e3] at h
  exact h
theorem stp_shw (hX : WfX X) (hW : WfK X K) {k t : Int} (h0 : 0 ≤ k) (h1 : k < xK X) (t0 : 0 ≤ t) (t1 : t ≤ kMi K) : shw (stp X K) k t = shw K k t := by
  have hb := (hW.2.2.2 k h0 h1)
  have a2 := hW.1
  have hl := (hW.2.2.1 k t h0 h1 t0 t1).2.2 t1
  have e0 : sh0 (stp X K) k t = sh0 K k t := by
    unfold sh0
    rcases stp_B X K k with h | h
    · rw [h.1, h.2, (stp_old X K t1 k h0).2.2.2.2]
    · rw [h.1, h.2, if_neg (by omega), if_neg (by omega), (stp_old X K t1 k h0).2.2.2.2]
  unfold shw
  rw [e0, (stp_old X K t1 k h0).2.2.2.1]
  by_cases c : 0 ≤ sh0 K k t
  · have : sh0 K k t ≤ kMi K := by
      unfold sh0
      split
      · rcases hb.2 with g | g <;> omega
      · omega
    rw [(stp_old X K this k h0).2.2.2.1]
  · rw [if_neg (by omega), if_neg (by omega)]
theorem stp_mIn (X : Txt) (K : Crt) (r : Int) {t : Int} (h : t ≤ kMi K) : mIn X (stp X K) r t = mIn X K r t := by
  unfold mIn
  congr 1
  funext m
  rw [(stp_old X K h m (by omega)).1]
theorem stp_mSh (hX : WfX X) (hW : WfK X K) {k t : Int} (h0 : 0 ≤ k) (h1 : k < xK X) (t0 : 0 ≤ t) (t1 : t ≤ kMi K) : mSh X (stp X K) k t = mSh X K k t := by
  have := shw_le hW h0 h1 t0 t1
  unfold mSh
  rw [stp_shw hX hW h0 h1 t0 t1]
  by_cases c : 0 ≤ shw K k t
  · rw [if_pos c, if_pos c, (stp_old X K (t := shw K k t) (by omega) k h0).2.2.1, stp_mIn X K _ (by omega)]
  · rw [if_neg c, if_neg c]
/-- what holds of a minute that was holds on -/
theorem rn_mSh (hX : WfX X) : ∀ (n : Nat) (K : Crt), WfK X K → kMi K + n ≤ 299 → ∀ {k t : Int}, 0 ≤ k → k < xK X → 0 ≤ t → t ≤ kMi K → mSh X (rn X n K) k t = mSh X K k t := by
  intro n
  induction n with
  | zero => intro K _ _ k t _ _ _ _; rfl
  | succ n ih =>
    intro K hW hn k t h0 h1 t0 t1
    have hm := (stp_mi X K).1
    rw [rn, ih (stp X K) (stp_wf hX hW (by omega)) (by omega) h0 h1 t0 (by omega), stp_mSh hX hW h0 h1 t0 t1]
theorem rn_old (X : Txt) : ∀ (n : Nat) (K : Crt) {t : Int}, t ≤ kMi K → ∀ {m : Int}, 0 ≤ m → kW (rn X n K) m t = kW K m t ∧ kH (rn X n K) m t = kH K m t := by
  intro n
  induction n with
  | zero => intro K t _ m _; exact ⟨rfl, rfl⟩
  | succ n ih =>
    intro K t ht m hm
    have h := (stp_mi X K).1
    have g := ih (stp X K) (t := t) (by omega) hm
    have g2 := stp_old X K ht m hm
    rw [rn]
    exact ⟨g.1.trans g2.1, g.2.trans g2.2.2.1⟩
theorem rn_add (X : Txt) : ∀ (a b : Nat) (K : Crt), rn X (a + b) K = rn X b (rn X a K) := by
  intro a
  induction a with
  | zero => intro b K; rw [Nat.zero_add]; rfl
  | succ a ih => intro b K; rw [show a + 1 + b = (a + b) + 1 by omega, rn, ih, rn]
end

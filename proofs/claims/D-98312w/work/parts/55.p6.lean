set_option maxRecDepth 100000
/-! ===== PURE: minutes go by (twin) ===== -/
theorem rmI_i {x y : Int} (hx : 0 ≤ x) (hx2 : x ≤ 2147483647) (hy : 0 < y) (hy2 : y ≤ 2147483647) : rmI x y = x % y := by
  have e1 : (iI x).toInt = x := nrm_i (by omega) hx2
  have e2 : (iI y).toInt = y := nrm_i (by omega) hy2
  have h1 : x / y * y + x % y = x := by rw [Int.mul_comm]; exact Int.mul_ediv_add_emod x y
  have h2 : 0 ≤ x % y := Int.emod_nonneg _ (by omega)
  have h3 : x % y < y := Int.emod_lt_of_pos _ hy
  have h4 : 0 ≤ x / y := Int.ediv_nonneg hx (by omega)
  have h5 : x / y ≤ x := Int.ediv_le_self _ hx
  have d1 : (iI x / iI y).toInt = x / y := by
    rw [Int32.toInt_div, e1, e2, Int.tdiv_eq_ediv_of_nonneg hx]
    exact Int.bmod_eq_of_le (by omega) (by omega)
  have d2 : (iI x / iI y * iI y).toInt = x / y * y := by
    rw [Int32.toInt_mul, d1, e2]
    exact Int.bmod_eq_of_le (by omega) (by omega)
  unfold rmI
  rw [Int32.toInt_sub, d2, e1]
  have : x - x / y * y = x % y := by omega
  rw [this]
  exact Int.bmod_eq_of_le (by omega) (by omega)
def mixI (h w : Int) : Int := xoI (((xoI h w) * 1103515245) + 12345) (suI (((xoI h w) * 1103515245) + 12345) 15)
def lotI (sd wh : Int) : Int := rmI (suI (mixI (mixI sd 43) wh) 1) 100
/-- where a man goes -/
def gk (X : Txt) (K : Crt) (m : Int) : Int := xG X m (kMi K) (kW K m (kMi K)) (kR K m (kMi K)) m (wys X (kW K m (kMi K))) (pcn (mIn X K (kW K m (kMi K)) (kMi K)) - 1)
def gto (X : Txt) (K : Crt) (m : Int) : Int := if gk X K m < 0 ∨ gk X K m % (wys X (kW K m (kMi K)) + 1) = 0 then kW K m (kMi K) else thr1 X (kW K m (kMi K)) (gk X K m % (wys X (kW K m (kMi K)) + 1))
def nx (f g : Int → Int → Int) (mi : Int) : Int → Int → Int := fun m t => if t = mi + 1 then g m mi else f m t
def stp0 (X : Txt) (K : Crt) : Crt := ((kMi K + 1, kSd K), (nx (kW K) (fun m _ => gto X K m) (kMi K), nx (kR K) (kR K) (kMi K), nx (kH K) (kH K) (kMi K), nx (kU K) (kU K) (kMi K), kL K), K.2.2)
def bI (X : Txt) (K : Crt) : Nat → Crt
  | 0 => K
  | i + 1 => if kB (bI X K i) i = 300 ∧ lotI (kSd K) (8 * kMi K + i) < xB X then setB (bI X K i) i (kMi K) (shw (bI X K i) i (kMi K)) else bI X K i
def stp (X : Txt) (K : Crt) : Crt := bI X (lks X (stp0 X K)) (xK X).toNat
theorem thr1_in {X : Txt} (hX : WfX X) {r k : Int} (hr : 0 ≤ r ∧ r < xR X) : 0 ≤ thr1 X r k ∧ thr1 X r k < xR X := by
  have key : ∀ n : Nat, (n : Int) ≤ xD X → ∀ z ∈ dl X r n, 0 ≤ z ∧ z < xR X := by
    intro n
    induction n with
    | zero => intro _ z hz; cases hz
    | succ n ih =>
      intro hn z hz
      rw [dl] at hz
      rcases List.mem_append.mp hz with h | h
      · exact ih (by omega) z h
      · have hd := hX.2.2.2.2.2.2.1 n (by omega) (by omega)
        split at h
        · rw [List.mem_singleton.mp h]; exact hd.2.1
        · split at h
          · rw [List.mem_singleton.mp h]; exact hd.1
          · cases h
  unfold thr1
  rw [List.getD_eq_getElem?_getD]
  cases hc : (dl X r (xD X).toNat)[(k - 1).toNat]? with
  | none => exact hr
  | some z => exact key _ (by have := hX.2.1; omega) z (List.mem_of_getElem? hc)
theorem gto_in {X : Txt} (hX : WfX X) {K : Crt} (hK : WfK X K) {m : Int} (h0 : 0 ≤ m) (h1 : m < xM X) : 0 ≤ gto X K m ∧ gto X K m < xR X := by
  have hw := (hK.2.1 m (kMi K) h0 h1 hK.1.1 (Int.le_refl _)).1
  unfold gto
  split
  · exact hw
  · exact thr1_in hX hw
theorem stp0_wf {X : Txt} (hX : WfX X) {K : Crt} (hK : WfK X K) (hm : kMi K < 299) : WfQ (kMi (stp0 X K) - 1) X (stp0 X K) := by
  have a := hK.1
  refine ⟨⟨show 0 ≤ kMi K + 1 by omega, show kMi K + 1 ≤ 299 by omega⟩, fun m t b0 b1 b2 b3 => ?_, fun k t b0 b1 b2 b3 => ?_, fun k b0 b1 => ?_⟩
  · have b3 : t ≤ kMi K + 1 := b3
    show (0 ≤ nx (kW K) (fun m _ => gto X K m) (kMi K) m t ∧ nx (kW K) (fun m _ => gto X K m) (kMi K) m t < xR X) ∧ (0 ≤ nx (kR K) (kR K) (kMi K) m t ∧ nx (kR K) (kR K) (kMi K) m t ≤ 20)
    unfold nx
    by_cases e : t = kMi K + 1
    · rw [if_pos e, if_pos e]
      exact ⟨gto_in hX hK b0 b1, (hK.2.1 m (kMi K) b0 b1 a.1 (Int.le_refl _)).2⟩
    · rw [if_neg e, if_neg e]
      exact hK.2.1 m t b0 b1 b2 (by omega)
  · have b3 : t ≤ kMi K + 1 := b3
    show (0 ≤ nx (kH K) (kH K) (kMi K) k t ∧ nx (kH K) (kH K) (kMi K) k t < xR X) ∧ (nx (kU K) (kU K) (kMi K) k t = 0 ∨ nx (kU K) (kU K) (kMi K) k t = 1) ∧ (t ≤ kMi K + 1 - 1 → 0 ≤ kL K k t ∧ kL K k t ≤ 240)
    unfold nx
    by_cases e : t = kMi K + 1
    · rw [if_pos e, if_pos e]
      have := hK.2.2.1 k (kMi K) b0 b1 a.1 (Int.le_refl _)
      exact ⟨this.1, this.2.1, fun h => by omega⟩
    · rw [if_neg e, if_neg e]
      have := hK.2.2.1 k t b0 b1 b2 (by omega)
      exact ⟨this.1, this.2.1, fun h => this.2.2 (by omega)⟩
  · have := hK.2.2.2 k b0 b1
    show (kB K k = 300 ∨ (0 ≤ kB K k ∧ kB K k ≤ kMi K + 1)) ∧ (kF K k = -2 ∨ (0 ≤ kF K k ∧ kF K k ≤ kMi K + 1))
    omega
section
variable {s : TW} {X : Txt} {K : Crt}
theorem t_goesTo (hX : WfX X) (hs : RepX s X) {q : Int} (hr : RepQ q s X K) (hK : WfQ q X K) {m : Int} (h0 : 0 ≤ m) (h1 : m < xM X) : ∃ s' : TW, f_X8_goesTo s m = some (gto X K m, s') ∧ chg [49, 50] [51] s s' := by
  have a1 := hX.2.2.1
  have a0 := hX.1
  have a2 := hK.1
  have hh := hr.2.1 m (kMi K) h0 h1 (by omega) (Int.le_refl _)
  have hw := hK.2.1 m (kMi K) h0 h1 (by omega) (Int.le_refl _)
  have hmi : s.1 57 = kMi K := hr.1
  have hwy := wys_le hX (kW K m (kMi K))
  unfold f_X8_goesTo
  rw [hmi, ta56 (by omega) (by omega), obS, hh.1, t_waysOf hX hs (by omega) (by omega), btS, hmi, ts49 (by decide) (by decide), obS, ts49 (by decide) (by decide), obS]
  have c1 : chg [49, 50] [51] s (tst (tst s 49 0 (kMi K)) 49 1 (kW K m (kMi K))) := ((chg.rf _ _ s).ts (by decide) _ _).ts (by decide) _ _
  have r1 := hr.chg c1 (by decide) (by decide)
  rw [show (tst (tst s 49 0 (kMi K)) 49 1 (kW K m (kMi K))).1 57 = kMi K from hmi, ta56 (by omega) (by omega), obS, (r1.2.1 m (kMi K) h0 h1 (by omega) (Int.le_refl _)).2, ts49 (by decide) (by decide), obS, ts49 (by decide) (by decide), obS, nrm_i (z := m) (by omega) (by omega), ts49 (by decide) (by decide), obS]
  have c2 := ((c1.ts (k := 49) (by decide) 2 (kR K m (kMi K))).ts (k := 49) (by decide) 3 m).ts (k := 49) (by decide) 4 (wys X (kW K m (kMi K)))
  rw [show (tst (tst (tst (tst (tst s 49 0 (kMi K)) 49 1 (kW K m (kMi K))) 49 2 (kR K m (kMi K))) 49 3 m) 49 4 (wys X (kW K m (kMi K)))).1 57 = kMi K from hmi, t_menIn hX (hs.same (c2.text (by decide) (by decide))) (hr.chg c2 (by decide) (by decide)) hK (by omega) (by omega) (by omega) (Int.le_refl _), btS, t_bits _ _ (Nat.lt_of_lt_of_le (mIn_lt X hX K _ _) (by decide)), btS, ts49 (by decide) (by decide), obS]
  have hpc : 0 ≤ pcn (mIn X K (kW K m (kMi K)) (kMi K)) ∧ pcn (mIn X K (kW K m (kMi K)) (kMi K)) ≤ 8 := by
    have := cn_le (fun a => (mIn X K (kW K m (kMi K)) (kMi K)).testBit a) 8
    unfold pcn
    omega
  have e9 : nrm (((cn (fun a => (mIn X K (kW K m (kMi K)) (kMi K)).testBit a) 8 : Nat) : Int) - 1) = pcn (mIn X K (kW K m (kMi K)) (kMi K)) - 1 := nrm_i (by unfold pcn at hpc; omega) (by unfold pcn at hpc; omega)
  rw [e9]
  have c3 := c2.ts (k := 49) (by decide) 5 (pcn (mIn X K (kW K m (kMi K)) (kMi K)) - 1)
  obtain ⟨p, ib, r, e1, e2, e3⟩ := (hs.2.2.2.1 m h0 h1).2.2 _ (c3.text (by decide) (by decide)).side
  simp only [tst_eq] at e2
  have e4 : r = gk X K m := by rw [e2]; unfold gk; simp [fu]
  rw [e1, btS, jnS]
  have cc : chg [49, 50] [51] s (setPB (tst (tst (tst (tst (tst (tst s 49 0 (kMi K)) 49 1 (kW K m (kMi K))) 49 2 (kR K m (kMi K))) 49 3 m) 49 4 (wys X (kW K m (kMi K)))) 49 5 (pcn (mIn X K (kW K m (kMi K)) (kMi K)) - 1)) p ib) := by
    refine ⟨fun j hj => ?_, fun j hj => ?_⟩
    · show fu _ 50 p j = _
      rw [fuN _ _ (by simp at hj; omega)]
      exact c3.1 j hj
    · show fu _ 51 ib j = _
      rw [fuN _ _ (by simp at hj; omega)]
      exact c3.2 j hj
  dsimp only
  rw [e3, e4]
  have hg := nrm_in r
  rw [e3, e4] at hg
  unfold gto
  by_cases q1 : 0 ≤ gk X K m
  · rw [if_pos q1, nrm_i (z := wys X (kW K m (kMi K)) + 1) (by omega) (by omega), if_neg (by omega), rmI_i q1 hg.2 (by omega) (by omega)]
    have q2 : 0 ≤ gk X K m % (wys X (kW K m (kMi K)) + 1) := Int.emod_nonneg _ (by omega)
    have q3 : gk X K m % (wys X (kW K m (kMi K)) + 1) < wys X (kW K m (kMi K)) + 1 := Int.emod_lt_of_pos _ (by omega)
    rw [nrm_i (by omega) (by omega)]
    by_cases q4 : gk X K m % (wys X (kW K m (kMi K)) + 1) = 0
    · rw [if_neg (by omega), if_pos (Or.inr q4), nrm_i (z := kW K m (kMi K)) (by omega) (by omega)]
      exact ⟨_, rfl, cc⟩
    · rw [if_pos q4, if_neg (by omega), t_through hX (hs.same (cc.text (by decide) (by decide))) (by omega) (by omega) (by omega) (by omega), btS]
      exact ⟨_, rfl, cc⟩
  · rw [if_neg q1, if_neg (by decide), if_pos (Or.inl (by omega)), nrm_i (z := kW K m (kMi K)) (by omega) (by omega)]
    exact ⟨_, rfl, cc⟩
theorem t_lotOf (hr : s.1 57 = kMi K) (hl : s.1 60 = kSd K) (k : Int) : f_X8_lotOf s k = some (lotI (kSd K) (8 * kMi K + k), s) := by
  unfold f_X8_lotOf f_X8_mixed
  rw [btS, btS, hr, hl]
  rfl
theorem t_breaksNow (hX : WfX X) (hr : RepW s X K) (hK : WfK X K) {k : Int} (h0 : 0 ≤ k) (h1 : k < xK X) : ∃ s' : TW, f_X8_breaksNow s k = some ((), s') ∧ RepW s' X (setB K k (kMi K) (shw K k (kMi K))) ∧ chg [58, 59] [] s s' := by
  have a1 := hX.2.2.2.1
  have a2 := hK.1
  have hmi : s.1 57 = kMi K := hr.1
  unfold f_X8_breaksNow
  rw [hmi, t_showsAt hX hr hK h0 h1 a2.1 (Int.le_refl _), btS, ts59 (by omega) (by omega), obS, ts58 (by omega) (by omega), obS]
  refine ⟨_, rfl, ?_, ((chg.rf _ _ s).ts (by decide) _ _).ts (by decide) _ _⟩
  have w := RepR.setB hr k (kMi K) (shw K k (kMi K))
  rw [if_neg (by omega)] at w
  show RepR _ ((tst (tst s 59 k _) 58 k _).2 56) _ ((tst (tst s 59 k _) 58 k _).2 58) ((tst (tst s 59 k _) 58 k _).2 59) X _
  rw [tst_eq, tst_ne _ _ _ (by decide), tst_ne _ _ _ (by decide), tst_ne _ _ _ (by decide), tst_ne _ _ _ (by decide), tst_eq, show (tst s 59 k (shw K k (kMi K))).1 57 = kMi K from hmi]
  exact w
theorem bI_same (X : Txt) (K : Crt) : ∀ i : Nat, (bI X K i).1 = K.1 ∧ (bI X K i).2.1 = K.2.1 := by
  intro i
  induction i with
  | zero => exact ⟨rfl, rfl⟩
  | succ i ih =>
    rw [bI]
    split
    · exact ih
    · exact ih
theorem setB_wf {K : Crt} (h : WfK X K) {k : Int} (h0 : 0 ≤ k) (h1 : k < xK X) : WfK X (setB K k (kMi K) (shw K k (kMi K))) := by
  refine ⟨h.1, h.2.1, h.2.2.1, fun q b0 b1 => ?_⟩
  show (fu (kB K) k (kMi K) q = 300 ∨ (0 ≤ fu (kB K) k (kMi K) q ∧ fu (kB K) k (kMi K) q ≤ kMi K)) ∧ (fu (kF K) k (shw K k (kMi K)) q = -2 ∨ (0 ≤ fu (kF K) k (shw K k (kMi K)) q ∧ fu (kF K) k (shw K k (kMi K)) q ≤ kMi K))
  by_cases e : q = k
  · rw [e, fuE, fuE]
    exact ⟨Or.inr ⟨h.1.1, Int.le_refl _⟩, shw_le h h0 h1 h.1.1 (Int.le_refl _)⟩
  · rw [fuN _ _ e, fuN _ _ e]
    exact h.2.2.2 q b0 b1
theorem bI_wf {K : Crt} (h : WfK X K) : ∀ i : Nat, (i : Int) ≤ xK X → WfK X (bI X K i) := by
  intro i
  induction i with
  | zero => intro _; exact h
  | succ i ih =>
    intro hi
    have h1 := ih (by omega)
    rw [bI]
    split
    · have e : kMi K = kMi (bI X K i) := by unfold kMi; rw [(bI_same X K i).1]
      rw [e]
      exact setB_wf h1 (by omega) (by omega)
    · exact h1
theorem stp_wf (hX : WfX X) {K : Crt} (hK : WfK X K) (hm : kMi K < 299) : WfK X (stp X K) := bI_wf (lks_wf (stp0_wf hX hK hm)) _ (by have := hX.2.2.2.1; omega)
theorem lks_mi (X : Txt) (K : Crt) : kMi (lks X K) = kMi K ∧ kSd (lks X K) = kSd K := ⟨(lkI_same X K _).1, (lkI_same X K _).2.1⟩
theorem stp_mi (X : Txt) (K : Crt) : kMi (stp X K) = kMi K + 1 ∧ kSd (stp X K) = kSd K := by
  have e := (bI_same X (lks X (stp0 X K)) (xK X).toNat).1
  have h := lks_mi X (stp0 X K)
  refine ⟨?_, ?_⟩
  · show (bI X (lks X (stp0 X K)) (xK X).toNat).1.1 = _
    rw [e]
    exact h.1
  · show (bI X (lks X (stp0 X K)) (xK X).toNat).1.2 = _
    rw [e]
    exact h.2
theorem t_minuteGoes (hX : WfX X) (hs : RepX s X) (hr : RepW s X K) (hK : WfK X K) (hl : s.1 60 = kSd K) (hm : kMi K < 299) : ∃ s' : TW, f_X8_minuteGoes s = some ((), s') ∧ RepW s' X (stp X K) ∧ chg [49, 50, 56, 58, 59] [51, 57] s s' := by
  have a1 := hX.2.2.1
  have a4 := hX.2.2.2.1
  have a3 := hs.1
  have a2 := hK.1
  have hmi : s.1 57 = kMi K := hr.1
  unfold f_X8_minuteGoes
  rw [hmi]
  -- the men
  refine loop (S := TW × Int) (fun n q => f_X8_minuteGoes_L15 n q.1 (36 * kMi K) (36 * kMi K + 36) q.2 (fun s6 x1 x2 => f_X8_minuteGoes_L50 FU s6 x1 x2 6 (fun s10 => bd (tp s10 57 (nrm (s10.1 57 + 1))) fun s11 => bt_ (f_X8_fillsLate s11) fun _ s12 => f_X8_minuteGoes_L94 FU s12 0 (fun s22 => some ((), s22))))) (fun o => ∃ s' : TW, o = some ((), s') ∧ RepW s' X (stp X K) ∧ chg [49, 50, 56, 58, 59] [51, 57] s s')
    (fun i q => q.2 = (i : Int) ∧ chg [49, 50, 56] [51] s q.1 ∧ (∀ j : Int, (j < 36 * kMi K + 36 ∨ 36 * kMi K + 42 ≤ j) → q.1.2 56 j = s.2 56 j) ∧ ∀ m : Int, 0 ≤ m → m < i → q.1.2 56 (36 * kMi K + 36 + m) = gto X K m) (xM X).toNat ?_ ?_ (xM X).toNat 0 FU (s, 0) (by omega) (by rw [FU_eq]; omega) ⟨rfl, chg.rf _ _ _, fun _ _ => rfl, fun _ _ h => by omega⟩
  · rintro n i ⟨q, b⟩ hi ⟨rfl, hc, h1, h2⟩
    dsimp only at hc h1 h2 ⊢
    have hs' := hs.same (hc.text (by decide) (by decide))
    have hq : RepW q X K := by
      refine ⟨(hc.2 57 (by decide)).trans hmi, fun m t b0 b1 b2 b3 => ?_, fun k t b0 b1 b2 b3 => ?_, fun k b0 b1 => ?_⟩
      · rw [h1 _ (by omega), h1 _ (by omega)]
        exact hr.2.1 m t b0 b1 b2 b3
      · rw [h1 _ (by omega), h1 _ (by omega), h1 _ (by omega)]
        exact hr.2.2.1 k t b0 b1 b2 b3
      · rw [hc.1 58 (by decide), hc.1 59 (by decide)]
        exact hr.2.2.2 k b0 b1
    obtain ⟨s1, e1, c1⟩ := t_goesTo (m := i) hX hs' hq hK (by omega) (by omega)
    right
    refine ⟨(tst s1 56 (36 * kMi K + 36 + i) (gto X K i), ((i + 1 : Nat) : Int)), ?_, rfl, (hc.tr (c1.up (by decide) (by decide))).ts (by decide) _ _, ?_, ?_⟩
    · rw [f_X8_minuteGoes_L15, ta28 (by have := hs'.1; omega) (by have := hs'.1; omega), obS, hs'.2.1.2.2.1, nrm_i (z := xM X) (by omega) (by omega), nrm_i (z := (i : Int)) (by omega) (by omega), if_neg (by omega), e1, btS, ts56 (by omega) (by omega), obS]
      rfl
    · intro j hj
      show (tst s1 56 (36 * kMi K + 36 + i) _).2 56 j = _
      rw [tst_eq, fuN _ _ (by omega), c1.1 56 (by decide)]
      exact h1 j hj
    · intro m m0 m1
      show (tst s1 56 (36 * kMi K + 36 + i) _).2 56 _ = _
      rw [tst_eq]
      by_cases e : m = i
      · rw [e, fuE]
      · rw [fuN _ _ (by omega), c1.1 56 (by decide)]
        exact h2 m m0 (by omega)
  · rintro n ⟨q, b⟩ ⟨rfl, hc, h1, h2⟩
    dsimp only at hc h1 h2 ⊢
    have hs' := hs.same (hc.text (by decide) (by decide))
    rw [f_X8_minuteGoes_L15, ta28 (by have := hs'.1; omega) (by have := hs'.1; omega), obS, hs'.2.1.2.2.1, nrm_i (z := xM X) (by omega) (by omega), nrm_i (by omega) (by omega), if_pos (by omega)]
    -- what stays
    refine loop (S := TW × Int) (fun n z => f_X8_minuteGoes_L50 n z.1 (36 * kMi K) (36 * kMi K + 36) z.2 (fun s10 => bd (tp s10 57 (nrm (s10.1 57 + 1))) fun s11 => bt_ (f_X8_fillsLate s11) fun _ s12 => f_X8_minuteGoes_L94 FU s12 0 (fun s22 => some ((), s22)))) (fun o => ∃ s' : TW, o = some ((), s') ∧ RepW s' X (stp X K) ∧ chg [49, 50, 56, 58, 59] [51, 57] s s')
      (fun i z => z.2 = (i : Int) + 6 ∧ chg [49, 50, 56] [51] s z.1 ∧ (∀ j : Int, (j < 36 * kMi K + 42 ∨ 36 * kMi K + 64 ≤ j) → z.1.2 56 j = q.2 56 j) ∧ ∀ m : Int, 6 ≤ m → m < i + 6 → z.1.2 56 (36 * kMi K + 36 + m) = q.2 56 (36 * kMi K + m)) 22 ?_ ?_ 22 0 FU (q, 6) rfl (by decide) ⟨rfl, hc, fun _ _ => rfl, fun _ _ h => by omega⟩
    · rintro n i ⟨z, b⟩ hi ⟨rfl, gc, g1, g2⟩
      dsimp only at gc g1 g2 ⊢
      right
      refine ⟨(tst z 56 (36 * kMi K + 36 + (i + 6)) (z.2 56 (36 * kMi K + (i + 6))), ((i + 1 : Nat) : Int) + 6), ?_, rfl, gc.ts (by decide) _ _, ?_, ?_⟩
      · rw [f_X8_minuteGoes_L50, nrm_i (z := 28) (by decide) (by decide), nrm_i (by omega) (by omega), if_neg (by omega), ta56 (by omega) (by omega), obS, ts56 (by omega) (by omega), obS]
        dsimp only
        congr 1
      · intro j hj
        show (tst z 56 _ _).2 56 j = _
        rw [tst_eq, fuN _ _ (by omega)]
        exact g1 j hj
      · intro m m0 m1
        show (tst z 56 _ _).2 56 _ = _
        rw [tst_eq]
        by_cases e : m = i + 6
        · rw [e, fuE, g1 _ (by omega)]
        · rw [fuN _ _ (by omega)]
          exact g2 m m0 (by omega)
    · rintro n ⟨z, b⟩ ⟨rfl, gc, g1, g2⟩
      dsimp only at gc g1 g2 ⊢
      have hz57 : z.1 57 = kMi K := (gc.2 57 (by decide)).trans hmi
      rw [f_X8_minuteGoes_L50, if_pos (by decide), bdS, hz57, nrm_i (by omega) (by omega)]
      have hsz := hs.same (gc.text (by decide) (by decide))
      have hcz : chg [49, 50, 56] [51, 57] s (tp z 57 (kMi K + 1)) := (gc.up (fun _ h => h) (by decide)).tp (by decide) _
      have hs2 : RepX (tp z 57 (kMi K + 1)) X := hs.same (hcz.text (by decide) (by decide))
      have hrz : RepQ (kMi (stp0 X K) - 1) (tp z 57 (kMi K + 1)) X (stp0 X K) := by
        refine ⟨tp_eq _ _ _, fun m t b0 b1 b2 b3 => ?_, fun k t b0 b1 b2 b3 => ?_, fun k b0 b1 => ?_⟩
        · have b3 : t ≤ kMi K + 1 := b3
          show z.2 56 (36 * t + m) = nx (kW K) (fun m _ => gto X K m) (kMi K) m t ∧ z.2 56 (36 * t + 6 + m) = nx (kR K) (kR K) (kMi K) m t
          unfold nx
          by_cases e : t = kMi K + 1
          · rw [if_pos e, if_pos e, g1 _ (by omega), show 36 * t + m = 36 * kMi K + 36 + m by omega, h2 m b0 (by omega), show 36 * t + 6 + m = 36 * kMi K + 36 + (6 + m) by omega, g2 _ (by omega) (by omega), h1 _ (by omega), show 36 * kMi K + (6 + m) = 36 * kMi K + 6 + m by omega, (hr.2.1 m (kMi K) b0 b1 (by omega) (Int.le_refl _)).2]
            exact ⟨rfl, rfl⟩
          · rw [if_neg e, if_neg e, g1 _ (by omega), g1 _ (by omega), h1 _ (by omega), h1 _ (by omega)]
            exact hr.2.1 m t b0 b1 b2 (by omega)
        · have b3 : t ≤ kMi K + 1 := b3
          show z.2 56 (36 * t + 12 + k) = nx (kH K) (kH K) (kMi K) k t ∧ z.2 56 (36 * t + 20 + k) = nx (kU K) (kU K) (kMi K) k t ∧ (t ≤ kMi K + 1 - 1 → z.2 56 (36 * t + 28 + k) = kL K k t)
          unfold nx
          by_cases e : t = kMi K + 1
          · rw [if_pos e, if_pos e, show 36 * t + 12 + k = 36 * kMi K + 36 + (12 + k) by omega, g2 _ (by omega) (by omega), h1 _ (by omega), show 36 * t + 20 + k = 36 * kMi K + 36 + (20 + k) by omega, g2 _ (by omega) (by omega), h1 _ (by omega), show 36 * kMi K + (12 + k) = 36 * kMi K + 12 + k by omega, show 36 * kMi K + (20 + k) = 36 * kMi K + 20 + k by omega]
            have := hr.2.2.1 k (kMi K) b0 b1 (by omega) (Int.le_refl _)
            exact ⟨this.1, this.2.1, fun h => by omega⟩
          · rw [if_neg e, if_neg e, g1 _ (by omega), g1 _ (by omega), g1 _ (by omega), h1 _ (by omega), h1 _ (by omega), h1 _ (by omega)]
            have := hr.2.2.1 k t b0 b1 b2 (by omega)
            exact ⟨this.1, this.2.1, fun h => this.2.2 (by omega)⟩
        · show z.2 58 k = _ ∧ z.2 59 k = _
          rw [gc.1 58 (by decide), gc.1 59 (by decide)]
          exact hr.2.2.2 k b0 b1
      obtain ⟨s3, e3, r3, c3⟩ := t_fillsLate hX hs2 hrz (stp0_wf hX hK hm)
      rw [e3, btS]
      have hc3 : chg [49, 50, 56, 58, 59] [51, 57] s s3 := (hcz.up (by decide) (fun _ h => h)).tr (c3.up (by decide) (by decide))
      have hK3 := lks_wf (stp0_wf hX hK hm)
      -- the lots
      refine loop (S := TW × Int) (fun n y => f_X8_minuteGoes_L94 n y.1 y.2 (fun s22 => some ((), s22))) (fun o => ∃ s' : TW, o = some ((), s') ∧ RepW s' X (stp X K) ∧ chg [49, 50, 56, 58, 59] [51, 57] s s')
        (fun i y => y.2 = (i : Int) ∧ RepW y.1 X (bI X (lks X (stp0 X K)) i) ∧ chg [49, 50, 56, 58, 59] [51, 57] s y.1) (xK X).toNat ?_ ?_ (xK X).toNat 0 FU (s3, 0) (by omega) (by rw [FU_eq]; omega) ⟨rfl, r3, hc3⟩
      · rintro n i ⟨y, b⟩ hi ⟨rfl, ry, cy⟩
        dsimp only at ry cy ⊢
        have hsy := hs.same (cy.text (by decide) (by decide))
        have hKy := bI_wf hK3 i (by omega)
        have e5 := (bI_same X (lks X (stp0 X K)) i).1
        have hmy : kMi (bI X (lks X (stp0 X K)) i) = kMi K + 1 := by unfold kMi; rw [e5]; exact (lks_mi X (stp0 X K)).1
        have hmk : kMi (lks X (stp0 X K)) = kMi K + 1 := (lks_mi X (stp0 X K)).1
        have hsk : kSd (lks X (stp0 X K)) = kSd K := (lks_mi X (stp0 X K)).2
        have hb := ry.2.2.2 i (by omega) (by omega)
        have hbw := (hKy.2.2.2 i (by omega) (by omega)).1
        have y57 : y.1 57 = kMi K + 1 := ry.1.trans hmy
        have y60 : y.1 60 = kSd K := (cy.2 60 (by decide)).trans hl
        right
        have e6 : f_X8_minuteGoes_L94 (n + 1) y i (fun s22 => some ((), s22)) = (if ¬ (if kB (bI X (lks X (stp0 X K)) i) i = 300 then -1 else kB (bI X (lks X (stp0 X K)) i) i) = -1 then f_X8_minuteGoes_L94 n y ((i : Int) + 1) (fun s22 => some ((), s22)) else if xB X ≤ lotI (kSd K) (8 * (kMi K + 1) + i) then f_X8_minuteGoes_L94 n y ((i : Int) + 1) (fun s22 => some ((), s22)) else bt_ (f_X8_breaksNow y i) fun _ s18 => f_X8_minuteGoes_L94 n s18 ((i : Int) + 1) (fun s22 => some ((), s22))) := by
          have hlot : nrm (lotI (kSd K) (8 * (kMi K + 1) + i)) = lotI (kSd K) (8 * (kMi K + 1) + i) := by unfold lotI rmI; exact nrm_of _
          have hB := hX.2.2.2.2.1
          have hl9 : f_X8_lotOf y i = some (lotI (kSd K) (8 * (kMi K + 1) + i), y) := by
            unfold f_X8_lotOf f_X8_mixed
            rw [btS, btS, y57, y60]
            rfl
          rw [f_X8_minuteGoes_L94, ta31 (by have := hsy.1; omega) (by have := hsy.1; omega), obS, hsy.2.1.2.2.2.1, nrm_i (z := xK X) (by omega) (by omega), nrm_i (z := (i : Int)) (by omega) (by omega), if_neg (by omega), ta58 (by omega) (by omega), obS, hb.1, nrm_i (z := -1) (by decide) (by decide), nrm_i (by split <;> omega) (by split <;> omega), hl9, btS, ta34 (by have := hsy.1; omega) (by have := hsy.1; omega), obS, hsy.2.1.2.2.2.2.1, hlot, nrm_i (z := xB X) (by omega) (by omega)]
        by_cases q1 : kB (bI X (lks X (stp0 X K)) i) i = 300
        · by_cases q2 : lotI (kSd K) (8 * (kMi K + 1) + i) < xB X
          · obtain ⟨s5, e7, r5, c5⟩ := t_breaksNow (k := i) hX ry hKy (by omega) (by omega)
            refine ⟨(s5, ((i + 1 : Nat) : Int)), ?_, rfl, ?_, cy.tr (c5.up (by decide) (by decide))⟩
            · rw [e6, if_pos q1, if_neg (by decide), if_neg (by omega), e7, btS]
              rfl
            · rw [bI, hmk, hsk, if_pos ⟨q1, q2⟩]
              rw [hmy] at r5
              show RepW s5 X _
              exact r5
          · refine ⟨(y, ((i + 1 : Nat) : Int)), ?_, rfl, ?_, cy⟩
            · rw [e6, if_pos q1, if_neg (by decide), if_pos (by omega)]
              rfl
            · rw [bI, hmk, hsk, if_neg (by omega)]
              exact ry
        · refine ⟨(y, ((i + 1 : Nat) : Int)), ?_, rfl, ?_, cy⟩
          · rw [e6, if_neg q1, if_pos (by omega)]
            rfl
          · rw [bI, hmk, hsk, if_neg (by omega)]
            exact ry
      · rintro n ⟨y, b⟩ ⟨rfl, ry, cy⟩
        dsimp only at ry cy ⊢
        have hsy := hs.same (cy.text (by decide) (by decide))
        refine ⟨y, ?_, ry, cy⟩
        rw [f_X8_minuteGoes_L94, ta31 (by have := hsy.1; omega) (by have := hsy.1; omega), obS, hsy.2.1.2.2.2.1, nrm_i (z := xK X) (by omega) (by omega), nrm_i (by omega) (by omega), if_pos (by omega)]
end

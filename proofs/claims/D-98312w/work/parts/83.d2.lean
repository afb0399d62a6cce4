set_option maxRecDepth 100000
set_option maxHeartbeats 4000000
def wtB (X : Txt) (K : Crt) (r : Int) : Bool := anyN (fun k => (decide (kH K k (kMi K) = r) && decide (kU K k (kMi K) = 0)) && decide (kB K k = 300)) (xK X).toNat
theorem RmAt.same {Z : Nat → Prop} {σ τ : Hp} {X : Txt} {i : Int} {a : Nat} (h : RmAt Z σ X i a) (e : agr Z σ τ) : RmAt Z τ X i a := by
  obtain ⟨z, g, d, gd, b1, b2, bz, b3, b4, b5⟩ := h
  exact ⟨z, g, d, gd, (agr_shp e z).trans b1, b2, bz, (agr_shp e bz).trans b3, by rw [agr_ci e z]; exact b4, by rw [agr_ci e bz]; exact b5⟩
theorem rlx_no {X : Txt} {A : Int → Bool} {r : Nat} {f : Int → Int} (h : 1000000 ≤ f r) : ∀ n : Nat, itr (rlx X A r) n f = f := by
  intro n
  induction n with
  | zero => rfl
  | succ n ih =>
    rw [itr, ih, rlx, if_neg (by omega)]
theorem rlx_r {X : Txt} (hX : WfX X) {A : Int → Bool} {r : Nat} {f : Int → Int} : ∀ n : Nat, (n : Int) ≤ wys X r → itr (rlx X A r) n f r = f r := by
  intro n
  induction n with
  | zero => intro _; rfl
  | succ n ih =>
    intro hn
    have hne := (adj_in hX (adj_thr (X := X) (r := r) (j := (n : Int) + 1) (by omega) (by omega))).2.2
    have h := ih (by omega)
    rw [itr, rlx]
    split
    · rw [fuN _ _ hne]; exact h
    · exact h
section
variable {Z : Nat → Prop} {σ σ' τ : Hp} {o r a : Nat} {X : Txt} {K E : Crt} {β : Type} {fr : Int}
theorem QI.agr (I : QI Z σ o r X K) (q : chgQ o σ τ) : agr Z σ τ := agr_chg q.1 fun x hz h => I.2.2.1 x hz (by unfold stS; unfold qS at h; omega)
theorem hb_isWatched (I : QI Z σ o r X K) {x : Int} (wx : wd x) (f : Int → Hp → Option β) : bn (f_X0_isWatched σ o x) f = f (if wtB X K x = true then 1 else 0) σ := by
  obtain ⟨hO, hx, hZ, hK, hX, hW⟩ := I
  have I : QI Z σ o r X K := ⟨hO, hx, hZ, hK, hX, hW⟩
  have J := I.ci
  have hc := hO.court
  have a0 := hX.1
  have a1 := hX.2.2.1
  have a4 := hX.2.2.2.1
  have a2 := hW.1
  refine bnP ?_ f
  unfold f_X0_isWatched
  have e := loopF (fun n i => f_X0_isWatched_L2 o n σ x i (fun s26 => some (0, s26))) (some (0, σ)) (fun _ => some (1, σ)) (fun k => (decide (kH K k (kMi K) = x) && decide (kU K k (kMi K) = 0)) && decide (kB K k = 300)) (xK X).toNat 0 (fl := FU) (by rw [FU_eq]; omega) (fun n i hi => by
      have hb := (hW.2.2.2 i (by omega) (by omega)).1
      have hu := (hW.2.2.1 i (kMi K) (by omega) (by omega) a2.1 (Int.le_refl _)).2.1
      rw [f_X0_isWatched_L2, Int.zero_add]
      by_cases d1 : kH K i (kMi K) = x
      · by_cases d2 : kU K i (kMi K) = 0
        · by_cases d3 : kB K i = 300
          · simp (disch := omega) only [↓reduceIte, Bool.false_eq_true, nrm_i, ltT, ltF, leT, leF, eqT, eqF, not_true_eq_false, not_false_eq_true, and_self, and_true, true_and, false_and, and_false, or_true, true_or, or_false, false_or, ↓btS, ↓bnS, ↓bdS, ↓jnS, ↓obS, n_W hX hW, n_R hW, n_H hX hW, n_U hW, n_L hW, n_B hW, n_S hW, n_M hX, n_Ms hX, n_P, ↓i_t, ↓i_f, ↓man_t I, ↓man_f I, ↓room_t I, ↓room_f I, ↓mir_t I, ↓mir_f I, ↓pas_t I, ↓pas_f I, ↓h_men I, ↓h_rooms I, ↓h_mirrors I, ↓o_rcv hO, ↓o_gI hO, ↓o_g3 hO, ↓o_g7 hO, ↓o_g8 hO, ↓o_g12 hO, ↓c_ob hc, ↓cb_mi J, ↓c_g0b hc, ↓c_g1b hc, ↓c_g2b hc, ↓c_g3b hc, ↓c_g4b hc, ↓c_r0b hc, ↓c_r1b hc, ↓c_r2b hc, ↓c_r3b hc, ↓c_r4b hc, ↓cb_W J, ↓cb_R J, ↓cb_H J, ↓cb_U J, ↓cb_L J, ↓hb_shows J, ↓hb_menIn J, ↓hb_menShown J, ↓hb_isBroken J, ↓hb_bits, d1, d2, d3, decide_true, Bool.and_self]
          · simp (disch := omega) only [↓reduceIte, Bool.false_eq_true, nrm_i, ltT, ltF, leT, leF, eqT, eqF, not_true_eq_false, not_false_eq_true, and_self, and_true, true_and, false_and, and_false, or_true, true_or, or_false, false_or, ↓btS, ↓bnS, ↓bdS, ↓jnS, ↓obS, n_W hX hW, n_R hW, n_H hX hW, n_U hW, n_L hW, n_B hW, n_S hW, n_M hX, n_Ms hX, n_P, ↓i_t, ↓i_f, ↓man_t I, ↓man_f I, ↓room_t I, ↓room_f I, ↓mir_t I, ↓mir_f I, ↓pas_t I, ↓pas_f I, ↓h_men I, ↓h_rooms I, ↓h_mirrors I, ↓o_rcv hO, ↓o_gI hO, ↓o_g3 hO, ↓o_g7 hO, ↓o_g8 hO, ↓o_g12 hO, ↓c_ob hc, ↓cb_mi J, ↓c_g0b hc, ↓c_g1b hc, ↓c_g2b hc, ↓c_g3b hc, ↓c_g4b hc, ↓c_r0b hc, ↓c_r1b hc, ↓c_r2b hc, ↓c_r3b hc, ↓c_r4b hc, ↓cb_W J, ↓cb_R J, ↓cb_H J, ↓cb_U J, ↓cb_L J, ↓hb_shows J, ↓hb_menIn J, ↓hb_menShown J, ↓hb_isBroken J, ↓hb_bits, d1, d2, d3, decide_true, decide_false, Bool.and_false]
        · simp (disch := omega) only [↓reduceIte, Bool.false_eq_true, nrm_i, ltT, ltF, leT, leF, eqT, eqF, not_true_eq_false, not_false_eq_true, and_self, and_true, true_and, false_and, and_false, or_true, true_or, or_false, false_or, ↓btS, ↓bnS, ↓bdS, ↓jnS, ↓obS, n_W hX hW, n_R hW, n_H hX hW, n_U hW, n_L hW, n_B hW, n_S hW, n_M hX, n_Ms hX, n_P, ↓i_t, ↓i_f, ↓man_t I, ↓man_f I, ↓room_t I, ↓room_f I, ↓mir_t I, ↓mir_f I, ↓pas_t I, ↓pas_f I, ↓h_men I, ↓h_rooms I, ↓h_mirrors I, ↓o_rcv hO, ↓o_gI hO, ↓o_g3 hO, ↓o_g7 hO, ↓o_g8 hO, ↓o_g12 hO, ↓c_ob hc, ↓cb_mi J, ↓c_g0b hc, ↓c_g1b hc, ↓c_g2b hc, ↓c_g3b hc, ↓c_g4b hc, ↓c_r0b hc, ↓c_r1b hc, ↓c_r2b hc, ↓c_r3b hc, ↓c_r4b hc, ↓cb_W J, ↓cb_R J, ↓cb_H J, ↓cb_U J, ↓cb_L J, ↓hb_shows J, ↓hb_menIn J, ↓hb_menShown J, ↓hb_isBroken J, ↓hb_bits, d1, d2, decide_false, Bool.and_false, Bool.false_and]
      · simp (disch := omega) only [↓reduceIte, Bool.false_eq_true, nrm_i, ltT, ltF, leT, leF, eqT, eqF, not_true_eq_false, not_false_eq_true, and_self, and_true, true_and, false_and, and_false, or_true, true_or, or_false, false_or, ↓btS, ↓bnS, ↓bdS, ↓jnS, ↓obS, n_W hX hW, n_R hW, n_H hX hW, n_U hW, n_L hW, n_B hW, n_S hW, n_M hX, n_Ms hX, n_P, ↓i_t, ↓i_f, ↓man_t I, ↓man_f I, ↓room_t I, ↓room_f I, ↓mir_t I, ↓mir_f I, ↓pas_t I, ↓pas_f I, ↓h_men I, ↓h_rooms I, ↓h_mirrors I, ↓o_rcv hO, ↓o_gI hO, ↓o_g3 hO, ↓o_g7 hO, ↓o_g8 hO, ↓o_g12 hO, ↓c_ob hc, ↓cb_mi J, ↓c_g0b hc, ↓c_g1b hc, ↓c_g2b hc, ↓c_g3b hc, ↓c_g4b hc, ↓c_r0b hc, ↓c_r1b hc, ↓c_r2b hc, ↓c_r3b hc, ↓c_r4b hc, ↓cb_W J, ↓cb_R J, ↓cb_H J, ↓cb_U J, ↓cb_L J, ↓hb_shows J, ↓hb_menIn J, ↓hb_menShown J, ↓hb_isBroken J, ↓hb_bits, d1, decide_false, Bool.false_and])
    (fun n => by
      rw [f_X0_isWatched_L2]
      simp (disch := omega) only [↓reduceIte, Bool.false_eq_true, nrm_i, ltT, ltF, leT, leF, eqT, eqF, not_true_eq_false, not_false_eq_true, and_self, and_true, true_and, false_and, and_false, or_true, true_or, or_false, false_or, ↓btS, ↓bnS, ↓bdS, ↓jnS, ↓obS, ↓i_t, ↓i_f, ↓man_t I, ↓man_f I, ↓room_t I, ↓room_f I, ↓mir_t I, ↓mir_f I, ↓pas_t I, ↓pas_f I, ↓h_men I, ↓h_rooms I, ↓h_mirrors I, ↓o_rcv hO, ↓o_gI hO, ↓o_g3 hO, ↓o_g7 hO, ↓o_g8 hO, ↓o_g12 hO])
  refine e.trans ((fnd_if _ _ _ _).trans ?_)
  show (if wtB X K x = true then _ else _) = _
  split <;> rfl
/-- the cell of distances holds f -/
def HF (X : Txt) (o : Nat) (f : Int → Int) (τ : Hp) : Prop := ∀ r : Int, 0 ≤ r → r < xR X → ci τ (o + 272) r = f r
theorem HF.wr (hO : Osh τ o r) {f : Int → Int} (h : HF X o f τ) (b v : Int) : HF X o (fu f b v) (wr τ (o + 272) b v) := by
  obtain ⟨g, hg⟩ := o_s272 hO
  intro x x0 x1
  rw [wr_ci (h := hg)]
  by_cases e : x = b
  · rw [e, fuE, fuE]
  · rw [fuN _ _ e, fuN _ _ e]; exact h x x0 x1
theorem h_lf81 (I : QI Z τ o r X K) {q : Nat} {b : Nat} (hq : (q : Int) < xR X) (hR : RmAt Z τ X q b) {f : Int → Int} (hf : HF X o f τ) (hb : ∀ x : Int, 0 ≤ f x ∧ f x ≤ 1000000) (n : Int) (k : Hp → Int → Int → Option (Unit × Hp)) :
    ∃ τ' : Hp, f_X0_laysFar_L81 o FU τ n q (some b) 0 k = k τ' n q ∧ HF X o (rowR X (fun x => !wtB X K x) q f) τ' ∧ chgQ o τ τ' := by
  have hX := I.2.2.2.2.1
  have a0 := hX.1
  have hwy := wys_le hX q
  by_cases c : 1000000 ≤ f q
  · -- nothing is laid from here
    refine ⟨τ, ?_, ?_, chgQ.rf _ _⟩
    · obtain ⟨z, g, d, gd, s1, s2, -, s4, s5, s6⟩ := hR
      have hfq := hf q (by omega) hq
      have hbq := hb q
      rw [show FU = 19999 + 1 from rfl, f_X0_laysFar_L81, gI_b s1, s5, nrm_i (by omega) (by omega), nrm_i (by decide) (by decide)]
      by_cases d : wys X q ≤ 0
      · rw [if_pos d]
      · rw [if_neg d, o_g17 I.1, o_a272 I.1 (by omega) (by omega), hfq, nrm_i (by decide) (by decide), nrm_i (by omega) (by omega), if_pos c]
    · unfold rowR
      rw [rlx_no c]
      exact hf
  · unfold rowR
    refine loop (S := Hp × Int) (fun fl z => f_X0_laysFar_L81 o fl z.1 n q (some b) z.2 k) (fun w => ∃ τ' : Hp, w = k τ' n q ∧ HF X o (itr (rlx X (fun x => !wtB X K x) q) (wys X q).toNat f) τ' ∧ chgQ o τ τ')
      (fun j z => z.2 = (j : Int) ∧ HF X o (itr (rlx X (fun x => !wtB X K x) q) j f) z.1 ∧ chgQ o τ z.1) (wys X q).toNat ?_ ?_ (wys X q).toNat 0 FU (τ, 0) (by omega) (by rw [FU_eq]; omega) ⟨rfl, hf, chgQ.rf _ _⟩
    · rintro fl j ⟨y, x⟩ hj ⟨rfl, hy, cy⟩
      dsimp only at hy cy ⊢
      have I2 := I.chg cy
      have hO2 := I2.1
      obtain ⟨z, g, d, gd, s1, s2, -, s4, s5, s6⟩ := hR.same (I.agr cy)
      have hr := rlx_r hX (A := fun x => !wtB X K x) (r := q) (f := f) j (by omega)
      have hbb : ∀ x : Int, 0 ≤ itr (rlx X (fun x => !wtB X K x) q) j f x ∧ itr (rlx X (fun x => !wtB X K x) q) j f x ≤ 1000000 := by
        have := itr_inv (g := rlx X (fun x => !wtB X K x) q) (P := fun f : Int → Int => ∀ x : Int, 0 ≤ f x ∧ f x ≤ 1000000) (N := j) (fun i a _ ha x => by
          unfold rlx
          split
          · by_cases e : x = thr1 X q ((i : Int) + 1)
            · rw [← e, fuE]
              have := ha x
              have := ha q
              split <;> omega
            · rw [fuN _ _ e]; exact ha x
          · exact ha x) hb j (Nat.le_refl _)
        exact this
      have e9 : itr (rlx X (fun x => !wtB X K x) q) (j + 1) f = rlx X (fun x => !wtB X K x) q j (itr (rlx X (fun x => !wtB X K x) q) j f) := rfl
      rw [e9]
      generalize itr (rlx X (fun x => !wtB X K x) q) j f = f1 at hy hr hbb ⊢
      have ha := adj_in hX (adj_thr (X := X) (r := q) (j := (j : Int) + 1) (by omega) (by omega))
      have hd : aI y 100 (some d) j = some (thr1 X q ((j : Int) + 1)) := by rw [aI_s s4 (by omega) (by omega) (by omega), s6 _ (by omega) (by omega)]
      have hfq : aI y 100 (some (o + 272)) q = some (f q) := by
        obtain ⟨g, hg⟩ := o_s272 hO2
        rw [aI_s hg (by omega) (by omega) (by omega), hy _ (by omega) hq, hr]
      have hbq := hb q
      have hg1 : gR y 10 (some b) 1 = some (some d) := by rw [gR_s s1, s2]
      have hg2 : gI y 10 (some b) 2 = some (wys X q) := by rw [gI_s s1, s5]
      generalize hv : thr1 X q ((j : Int) + 1) = v at hd ha
      have hfv : aI y 100 (some (o + 272)) v = some (f1 v) := by
        obtain ⟨g, hg⟩ := o_s272 hO2
        rw [aI_s hg (by omega) (by omega) (by omega), hy _ (by omega) (by omega)]
      have hbv := hbb v
      unfold rlx
      rw [hv, hr]
      right
      by_cases d1 : wtB X K v = true
      · refine ⟨(y, ((j + 1 : Nat) : Int)), ?_, rfl, ?_, cy⟩
        · rw [f_X0_laysFar_L81]
          simp (disch := omega) only [↓reduceIte, Bool.false_eq_true, nrm_i, ltT, ltF, leT, leF, eqT, eqF, not_true_eq_false, not_false_eq_true, and_self, and_true, true_and, false_and, and_false, or_true, true_or, or_false, false_or, ↓btS, ↓bnS, ↓bdS, ↓jnS, ↓obS, ↓obP hg2, ↓o_g17 hO2, ↓obP hfq, ↓obP hg1, ↓obP hd, ↓o_rcv hO2, ↓hb_isWatched I2, d1]
          rfl
        · rw [if_neg (by simp [d1])]; exact hy
      · have hw : ∀ z : Int, sI y 100 (some (o + 272)) v z = some (wr y (o + 272) v z) := fun z => by
          obtain ⟨g, hg⟩ := o_s272 hO2
          exact sI_s hg z (by omega) (by omega) (by omega)
        have em : nrm (mnI (f1 v) (f q + 1)) = if f q + 1 < f1 v then f q + 1 else f1 v := by
          unfold mnI
          rw [nrm_i (z := f1 v) (by omega) (by omega), nrm_i (z := f q + 1) (by omega) (by omega)]
          split
          · exact nrm_i (by omega) (by omega)
          · exact nrm_i (by omega) (by omega)
        refine ⟨(wr y (o + 272) v (if f q + 1 < f1 v then f q + 1 else f1 v), ((j + 1 : Nat) : Int)), ?_, rfl, ?_, cy.wr (by unfold qS; omega) _ _⟩
        · rw [f_X0_laysFar_L81]
          dsimp only
          rw [← em]
          clear em hbb
          simp (disch := omega) only [↓reduceIte, Bool.false_eq_true, nrm_i, ltT, ltF, leT, leF, eqT, eqF, not_true_eq_false, not_false_eq_true, and_self, and_true, true_and, false_and, and_false, or_true, true_or, or_false, false_or, ↓btS, ↓bnS, ↓bdS, ↓jnS, ↓obS, ↓obP hg2, ↓o_g17 hO2, ↓obP hfq, ↓obP hg1, ↓obP hd, ↓o_rcv hO2, ↓hb_isWatched I2, d1, ↓obP hfv, ↓obP (hw _)]
          rfl
        · rw [if_pos ⟨by omega, by simp [d1]⟩]
          exact HF.wr hO2 hy _ _
    · rintro fl ⟨y, x⟩ ⟨rfl, hy, cy⟩
      dsimp only at hy cy ⊢
      obtain ⟨z, g, d, gd, s1, s2, -, s4, s5, s6⟩ := hR.same (I.agr cy)
      refine ⟨y, ?_, hy, cy⟩
      rw [f_X0_laysFar_L81, gI_b s1, s5, nrm_i (by omega) (by omega), nrm_i (by omega) (by omega), if_pos (by omega)]
theorem h_lf54 (I : QI Z τ o r X K) {f : Int → Int} (hf : HF X o f τ) (hs : SndF X (fun x => !wtB X K x) fr f) (n : Int) (k : Hp → Int → Option (Unit × Hp)) :
    ∃ τ' : Hp, f_X0_laysFar_L54 o FU τ n 0 k = k τ' n ∧ HF X o (rndR X (fun x => !wtB X K x) f) τ' ∧ chgQ o τ τ' := by
  have hX := I.2.2.2.2.1
  have a0 := hX.1
  unfold rndR
  refine loop (S := Hp × Int) (fun fl z => f_X0_laysFar_L54 o fl z.1 n z.2 k) (fun w => ∃ τ' : Hp, w = k τ' n ∧ HF X o (itr (rowR X (fun x => !wtB X K x)) (xR X).toNat f) τ' ∧ chgQ o τ τ')
    (fun j z => z.2 = (j : Int) ∧ HF X o (itr (rowR X (fun x => !wtB X K x)) j f) z.1 ∧ chgQ o τ z.1) (xR X).toNat ?_ ?_ (xR X).toNat 0 FU (τ, 0) (by omega) (by rw [FU_eq]; omega) ⟨rfl, hf, chgQ.rf _ _⟩
  · rintro fl j ⟨y, x⟩ hj ⟨rfl, hy, cy⟩
    dsimp only at hy cy ⊢
    have I2 := I.chg cy
    have hO2 := I2.1
    obtain ⟨br, er, r1, r2, r3⟩ := x_rooms I2.2.1
    have hR := r3 j (by omega) (by omega)
    have hss : SndF X (fun x => !wtB X K x) fr (itr (rowR X (fun x => !wtB X K x)) j f) := itr_inv (P := SndF X (fun x => !wtB X K x) fr) (N := j) (fun i a _ ha => rowR_snd hX i ha) hs j (Nat.le_refl _)
    obtain ⟨y2, e2, h2, c2⟩ := h_lf81 I2 (by omega) hR hy (fun x => (hss x).1) n (fun s48 x2 x3 => f_X0_laysFar_L54 o fl s48 x2 (x3 + 1) k)
    right
    refine ⟨(y2, ((j + 1 : Nat) : Int)), ?_, rfl, h2, cy.tr c2⟩
    obtain ⟨z, g, d, gd, s1, -⟩ := hR
    rw [f_X0_laysFar_L54, o_rcv hO2, h_rooms I2, nrm_i (by omega) (by omega), nrm_i (by omega) (by omega), if_neg (by omega), o_g3 hO2, obP r1, l_rcvb r2, l_getb r2 (by omega) (by omega), kst_1 s1, e2]
    rfl
  · rintro fl ⟨y, x⟩ ⟨rfl, hy, cy⟩
    dsimp only at hy cy ⊢
    have I2 := I.chg cy
    refine ⟨y, ?_, hy, cy⟩
    rw [f_X0_laysFar_L54, o_rcv I2.1, h_rooms I2, nrm_i (by omega) (by omega), nrm_i (by omega) (by omega), if_pos (by omega)]
theorem h_laysFar (I : QI Z τ o r X K) {fr : Int} (hf : 0 ≤ fr ∧ fr < xR X) : ∃ τ' : Hp, f_X0_laysFar τ o fr = some ((), τ') ∧ HF X o (dC X (fun x => !wtB X K x) fr) τ' ∧ chgQ o τ τ' := by
  have hX := I.2.2.2.2.1
  have a0 := hX.1
  unfold f_X0_laysFar
  -- the start
  have beg : ∃ τ' : Hp, f_X0_laysFar_L2 o FU τ fr 0 (fun s14 => f_X0_laysFar_L44 o FU s14 0 (fun s52 => some ((), s52))) = f_X0_laysFar_L44 o FU τ' 0 (fun s52 => some ((), s52)) ∧ HF X o (lay0 (fun x => !wtB X K x) fr) τ' ∧ chgQ o τ τ' := by
    refine loop (S := Hp × Int) (fun fl z => f_X0_laysFar_L2 o fl z.1 fr z.2 (fun s14 => f_X0_laysFar_L44 o FU s14 0 (fun s52 => some ((), s52)))) (fun w => ∃ τ' : Hp, w = f_X0_laysFar_L44 o FU τ' 0 (fun s52 => some ((), s52)) ∧ HF X o (lay0 (fun x => !wtB X K x) fr) τ' ∧ chgQ o τ τ')
      (fun j z => z.2 = (j : Int) ∧ (∀ x : Int, 0 ≤ x → x < j → ci z.1 (o + 272) x = lay0 (fun x => !wtB X K x) fr x) ∧ chgQ o τ z.1) (xR X).toNat ?_ ?_ (xR X).toNat 0 FU (τ, 0) (by omega) (by rw [FU_eq]; omega) ⟨rfl, fun _ _ h => by omega, chgQ.rf _ _⟩
    · rintro fl j ⟨y, x⟩ hj ⟨rfl, hy, cy⟩
      dsimp only at hy cy ⊢
      have I2 := I.chg cy
      have hO2 := I2.1
      obtain ⟨g, hg⟩ := o_s272 hO2
      have hw : ∀ z : Int, sI y 100 (some (o + 272)) j z = some (wr y (o + 272) j z) := fun z => sI_s hg z (by omega) (by omega) (by omega)
      right
      refine ⟨(wr y (o + 272) j (lay0 (fun x => !wtB X K x) fr j), ((j + 1 : Nat) : Int)), ?_, rfl, ?_, cy.wr (by unfold qS; omega) _ _⟩
      · rw [f_X0_laysFar_L2]
        unfold lay0
        by_cases d1 : (j : Int) = fr
        · by_cases d2 : wtB X K j = true
          · simp (disch := omega) only [↓reduceIte, Bool.false_eq_true, nrm_i, ltT, ltF, leT, leF, eqT, eqF, not_true_eq_false, not_false_eq_true, and_self, and_true, true_and, false_and, and_false, or_true, true_or, or_false, false_or, ↓btS, ↓bnS, ↓bdS, ↓jnS, ↓obS, ↓o_rcv hO2, ↓h_rooms I2, ↓o_g17 hO2, ↓hb_isWatched I2, d2, ↓obP (hw _), Bool.not_true]; rfl
          · simp (disch := omega) only [↓reduceIte, Bool.false_eq_true, nrm_i, ltT, ltF, leT, leF, eqT, eqF, not_true_eq_false, not_false_eq_true, and_self, and_true, true_and, false_and, and_false, or_true, true_or, or_false, false_or, ↓btS, ↓bnS, ↓bdS, ↓jnS, ↓obS, ↓o_rcv hO2, ↓h_rooms I2, ↓o_g17 hO2, ↓hb_isWatched I2, d2, ↓obP (hw _), Bool.not_false]; rfl
        · simp (disch := omega) only [↓reduceIte, Bool.false_eq_true, nrm_i, ltT, ltF, leT, leF, eqT, eqF, not_true_eq_false, not_false_eq_true, and_self, and_true, true_and, false_and, and_false, or_true, true_or, or_false, false_or, ↓btS, ↓bnS, ↓bdS, ↓jnS, ↓obS, ↓o_rcv hO2, ↓h_rooms I2, ↓o_g17 hO2, d1, ↓obP (hw _)]; rfl
      · intro x x0 x1
        dsimp only
        rw [wr_ci (h := hg)]
        by_cases e : x = j
        · rw [e, fuE]
        · rw [fuN _ _ e]; exact hy x x0 (by omega)
    · rintro fl ⟨y, x⟩ ⟨rfl, hy, cy⟩
      dsimp only at hy cy ⊢
      have I2 := I.chg cy
      refine ⟨y, ?_, fun x x0 x1 => hy x x0 (by omega), cy⟩
      rw [f_X0_laysFar_L2, o_rcv I2.1, h_rooms I2, nrm_i (by omega) (by omega), nrm_i (by omega) (by omega), if_pos (by omega)]
  obtain ⟨τ1, e1, h1, c1⟩ := beg
  rw [e1]
  refine loop (S := Hp × Int) (fun fl z => f_X0_laysFar_L44 o fl z.1 z.2 (fun s52 => some ((), s52))) (fun w => ∃ τ' : Hp, w = some ((), τ') ∧ HF X o (dC X (fun x => !wtB X K x) fr) τ' ∧ chgQ o τ τ')
    (fun j z => z.2 = (j : Int) ∧ HF X o (itr (fun _ f => rndR X (fun x => !wtB X K x) f) j (lay0 (fun x => !wtB X K x) fr)) z.1 ∧ chgQ o τ z.1) (xR X).toNat ?_ ?_ (xR X).toNat 0 FU (τ1, 0) (by omega) (by rw [FU_eq]; omega) ⟨rfl, h1, c1⟩
  · rintro fl j ⟨y, x⟩ hj ⟨rfl, hy, cy⟩
    dsimp only at hy cy ⊢
    have I2 := I.chg cy
    have hO2 := I2.1
    have hss : SndF X (fun x => !wtB X K x) fr (itr (fun _ f => rndR X (fun x => !wtB X K x) f) j (lay0 (fun x => !wtB X K x) fr)) := itr_inv (P := SndF X (fun x => !wtB X K x) fr) (N := j) (fun i a _ ha => rndR_snd hX ha) lay0_snd j (Nat.le_refl _)
    obtain ⟨y2, e2, h2, c2⟩ := h_lf54 I2 hy hss j (fun s50 x2 => f_X0_laysFar_L44 o fl s50 (x2 + 1) (fun s52 => some ((), s52)))
    right
    refine ⟨(y2, ((j + 1 : Nat) : Int)), ?_, rfl, h2, cy.tr c2⟩
    rw [f_X0_laysFar_L44, o_rcv hO2, h_rooms I2, nrm_i (by omega) (by omega), nrm_i (by omega) (by omega), if_neg (by omega), e2]
    rfl
  · rintro fl ⟨y, x⟩ ⟨rfl, hy, cy⟩
    dsimp only at hy cy ⊢
    have I2 := I.chg cy
    refine ⟨y, ?_, fun x x0 x1 => (hy x x0 x1).trans (layR_eq hX hf x0 x1), cy⟩
    rw [f_X0_laysFar_L44, o_rcv I2.1, h_rooms I2, nrm_i (by omega) (by omega), nrm_i (by omega) (by omega), if_pos (by omega)]
end

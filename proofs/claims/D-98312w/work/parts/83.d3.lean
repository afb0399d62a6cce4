set_option maxRecDepth 100000
set_option maxHeartbeats 4000000
section
variable {Z : Nat → Prop} {σ σ' τ : Hp} {o r a : Nat} {X : Txt} {K E : Crt} {β : Type} {fr : Int}
/-- the cell of distances alone has changed -/
def chgF (o : Nat) (σ τ : Hp) : Prop := chgH (fun x => x = o + 272) σ τ
theorem chgF.rf (o : Nat) (σ : Hp) : chgF o σ σ := chgH.rf _ _
theorem chgF.tr {o : Nat} {a b c : Hp} (h : chgF o a b) (g : chgF o b c) : chgF o a c := chgH.tr h g
theorem chgF.wr {o : Nat} {a b : Hp} (h : chgF o a b) (i v : Int) : chgF o a (wr b (o + 272) i v) := chgH.wr h rfl i v
theorem chgF.q {o : Nat} {a b : Hp} (h : chgF o a b) : chgQ o a b := chgQ.of h (fun x hx => by rw [hx]; unfold qS; omega)
theorem h_lw73 (I : QI Z τ o r X K) {q : Nat} {b : Nat} (hq : (q : Int) < xR X) (hR : RmAt Z τ X q b) {f : Int → Int} (hf : HF X o f τ) (hb : ∀ x : Int, 0 ≤ f x ∧ f x ≤ 1000000) (n : Int) (k : Hp → Int → Int → Option (Unit × Hp)) :
    ∃ τ' : Hp, f_X0_laysWays_L73 o FU τ n q (some b) 0 k = k τ' n q ∧ HF X o (rowR X (fun _ => true) q f) τ' ∧ chgF o τ τ' := by
  have hX := I.2.2.2.2.1
  have a0 := hX.1
  have hwy := wys_le hX q
  by_cases c : 1000000 ≤ f q
  · -- nothing is laid from here
    refine ⟨τ, ?_, ?_, chgF.rf _ _⟩
    · obtain ⟨z, g, d, gd, s1, s2, -, s4, s5, s6⟩ := hR
      have hfq := hf q (by omega) hq
      have hbq := hb q
      rw [show FU = 19999 + 1 from rfl, f_X0_laysWays_L73, gI_b s1, s5, nrm_i (by omega) (by omega), nrm_i (by decide) (by decide)]
      by_cases d : wys X q ≤ 0
      · rw [if_pos d]
      · rw [if_neg d, o_g17 I.1, o_a272 I.1 (by omega) (by omega), hfq, nrm_i (by decide) (by decide), nrm_i (by omega) (by omega), if_pos c]
    · unfold rowR
      rw [rlx_no c]
      exact hf
  · unfold rowR
    refine loop (S := Hp × Int) (fun fl z => f_X0_laysWays_L73 o fl z.1 n q (some b) z.2 k) (fun w => ∃ τ' : Hp, w = k τ' n q ∧ HF X o (itr (rlx X (fun _ => true) q) (wys X q).toNat f) τ' ∧ chgF o τ τ')
      (fun j z => z.2 = (j : Int) ∧ HF X o (itr (rlx X (fun _ => true) q) j f) z.1 ∧ chgF o τ z.1) (wys X q).toNat ?_ ?_ (wys X q).toNat 0 FU (τ, 0) (by omega) (by rw [FU_eq]; omega) ⟨rfl, hf, chgF.rf _ _⟩
    · rintro fl j ⟨y, x⟩ hj ⟨rfl, hy, cy⟩
      dsimp only at hy cy ⊢
      have I2 := I.chg cy.q
      have hO2 := I2.1
      obtain ⟨z, g, d, gd, s1, s2, -, s4, s5, s6⟩ := hR.same (I.agr cy.q)
      have hr := rlx_r hX (A := fun _ => true) (r := q) (f := f) j (by omega)
      have hbb : ∀ x : Int, 0 ≤ itr (rlx X (fun _ => true) q) j f x ∧ itr (rlx X (fun _ => true) q) j f x ≤ 1000000 := by
        have := itr_inv (g := rlx X (fun _ => true) q) (P := fun f : Int → Int => ∀ x : Int, 0 ≤ f x ∧ f x ≤ 1000000) (N := j) (fun i a _ ha x => by
          unfold rlx
          split
          · by_cases e : x = thr1 X q ((i : Int) + 1)
            · rw [← e, fuE]
              have := ha x
              have := ha q
              split <;> omega
            · rw [fuN _ _ e]; exact ha x
          · exact ha x) hb j (Nat.le_refl _)
        exact this
      have e9 : itr (rlx X (fun _ => true) q) (j + 1) f = rlx X (fun _ => true) q j (itr (rlx X (fun _ => true) q) j f) := rfl
      rw [e9]
      generalize itr (rlx X (fun _ => true) q) j f = f1 at hy hr hbb ⊢
      have ha := adj_in hX (adj_thr (X := X) (r := q) (j := (j : Int) + 1) (by omega) (by omega))
      have hd : aI y 100 (some d) j = some (thr1 X q ((j : Int) + 1)) := by rw [aI_s s4 (by omega) (by omega) (by omega), s6 _ (by omega) (by omega)]
      have hfq : aI y 100 (some (o + 272)) q = some (f q) := by
        obtain ⟨g, hg⟩ := o_s272 hO2
        rw [aI_s hg (by omega) (by omega) (by omega), hy _ (by omega) hq, hr]
      have hbq := hb q
      have hg1 : gR y 10 (some b) 1 = some (some d) := by rw [gR_s s1, s2]
      have hg2 : gI y 10 (some b) 2 = some (wys X q) := by rw [gI_s s1, s5]
      generalize hv : thr1 X q ((j : Int) + 1) = v at hd ha
      have hfv : aI y 100 (some (o + 272)) v = some (f1 v) := by
        obtain ⟨g, hg⟩ := o_s272 hO2
        rw [aI_s hg (by omega) (by omega) (by omega), hy _ (by omega) (by omega)]
      have hbv := hbb v
      unfold rlx
      rw [hv, hr]
      right
      have hw : ∀ z : Int, sI y 100 (some (o + 272)) v z = some (wr y (o + 272) v z) := fun z => by
        obtain ⟨g, hg⟩ := o_s272 hO2
        exact sI_s hg z (by omega) (by omega) (by omega)
      have em : nrm (mnI (f1 v) (f q + 1)) = if f q + 1 < f1 v then f q + 1 else f1 v := by
        unfold mnI
        rw [nrm_i (z := f1 v) (by omega) (by omega), nrm_i (z := f q + 1) (by omega) (by omega)]
        split
        · exact nrm_i (by omega) (by omega)
        · exact nrm_i (by omega) (by omega)
      refine ⟨(wr y (o + 272) v (if f q + 1 < f1 v then f q + 1 else f1 v), ((j + 1 : Nat) : Int)), ?_, rfl, ?_, cy.wr _ _⟩
      · rw [f_X0_laysWays_L73]
        dsimp only
        rw [← em]
        clear em hbb
        simp (disch := omega) only [↓reduceIte, Bool.false_eq_true, nrm_i, ltT, ltF, leT, leF, eqT, eqF, not_true_eq_false, not_false_eq_true, and_self, and_true, true_and, false_and, and_false, or_true, true_or, or_false, false_or, ↓btS, ↓bnS, ↓bdS, ↓jnS, ↓obS, ↓obP hg2, ↓o_g17 hO2, ↓obP hfq, ↓obP hg1, ↓obP hd, ↓obP hfv, ↓obP (hw _)]
        rfl
      · rw [if_pos ⟨by omega, rfl⟩]
        exact HF.wr hO2 hy _ _
    · rintro fl ⟨y, x⟩ ⟨rfl, hy, cy⟩
      dsimp only at hy cy ⊢
      obtain ⟨z, g, d, gd, s1, s2, -, s4, s5, s6⟩ := hR.same (I.agr cy.q)
      refine ⟨y, ?_, hy, cy⟩
      rw [f_X0_laysWays_L73, gI_b s1, s5, nrm_i (by omega) (by omega), nrm_i (by omega) (by omega), if_pos (by omega)]
theorem h_lw46 (I : QI Z τ o r X K) {f : Int → Int} (hf : HF X o f τ) (hs : SndF X (fun _ => true) fr f) (n : Int) (k : Hp → Int → Option (Unit × Hp)) :
    ∃ τ' : Hp, f_X0_laysWays_L46 o FU τ n 0 k = k τ' n ∧ HF X o (rndR X (fun _ => true) f) τ' ∧ chgF o τ τ' := by
  have hX := I.2.2.2.2.1
  have a0 := hX.1
  unfold rndR
  refine loop (S := Hp × Int) (fun fl z => f_X0_laysWays_L46 o fl z.1 n z.2 k) (fun w => ∃ τ' : Hp, w = k τ' n ∧ HF X o (itr (rowR X (fun _ => true)) (xR X).toNat f) τ' ∧ chgF o τ τ')
    (fun j z => z.2 = (j : Int) ∧ HF X o (itr (rowR X (fun _ => true)) j f) z.1 ∧ chgF o τ z.1) (xR X).toNat ?_ ?_ (xR X).toNat 0 FU (τ, 0) (by omega) (by rw [FU_eq]; omega) ⟨rfl, hf, chgF.rf _ _⟩
  · rintro fl j ⟨y, x⟩ hj ⟨rfl, hy, cy⟩
    dsimp only at hy cy ⊢
    have I2 := I.chg cy.q
    have hO2 := I2.1
    obtain ⟨br, er, r1, r2, r3⟩ := x_rooms I2.2.1
    have hR := r3 j (by omega) (by omega)
    have hss : SndF X (fun _ => true) fr (itr (rowR X (fun _ => true)) j f) := itr_inv (P := SndF X (fun _ => true) fr) (N := j) (fun i a _ ha => rowR_snd hX i ha) hs j (Nat.le_refl _)
    obtain ⟨y2, e2, h2, c2⟩ := h_lw73 I2 (by omega) hR hy (fun x => (hss x).1) n (fun s48 x2 x3 => f_X0_laysWays_L46 o fl s48 x2 (x3 + 1) k)
    right
    refine ⟨(y2, ((j + 1 : Nat) : Int)), ?_, rfl, h2, cy.tr c2⟩
    obtain ⟨z, g, d, gd, s1, -⟩ := hR
    rw [f_X0_laysWays_L46, o_rcv hO2, h_rooms I2, nrm_i (by omega) (by omega), nrm_i (by omega) (by omega), if_neg (by omega), o_g3 hO2, obP r1, l_rcvb r2, l_getb r2 (by omega) (by omega), kst_1 s1, e2]
    rfl
  · rintro fl ⟨y, x⟩ ⟨rfl, hy, cy⟩
    dsimp only at hy cy ⊢
    have I2 := I.chg cy.q
    refine ⟨y, ?_, hy, cy⟩
    rw [f_X0_laysWays_L46, o_rcv I2.1, h_rooms I2, nrm_i (by omega) (by omega), nrm_i (by omega) (by omega), if_pos (by omega)]
theorem h_laysWays (I : QI Z τ o r X K) {fr : Int} (hf : 0 ≤ fr ∧ fr < xR X) : ∃ τ' : Hp, f_X0_laysWays τ o fr = some ((), τ') ∧ HF X o (dC X (fun _ => true) fr) τ' ∧ chgF o τ τ' := by
  have hX := I.2.2.2.2.1
  have a0 := hX.1
  unfold f_X0_laysWays
  -- the start
  have beg : ∃ τ' : Hp, f_X0_laysWays_L2 o FU τ fr 0 (fun s14 => f_X0_laysWays_L36 o FU s14 0 (fun s52 => some ((), s52))) = f_X0_laysWays_L36 o FU τ' 0 (fun s52 => some ((), s52)) ∧ HF X o (lay0 (fun _ => true) fr) τ' ∧ chgF o τ τ' := by
    refine loop (S := Hp × Int) (fun fl z => f_X0_laysWays_L2 o fl z.1 fr z.2 (fun s14 => f_X0_laysWays_L36 o FU s14 0 (fun s52 => some ((), s52)))) (fun w => ∃ τ' : Hp, w = f_X0_laysWays_L36 o FU τ' 0 (fun s52 => some ((), s52)) ∧ HF X o (lay0 (fun _ => true) fr) τ' ∧ chgF o τ τ')
      (fun j z => z.2 = (j : Int) ∧ (∀ x : Int, 0 ≤ x → x < j → ci z.1 (o + 272) x = lay0 (fun _ => true) fr x) ∧ chgF o τ z.1) (xR X).toNat ?_ ?_ (xR X).toNat 0 FU (τ, 0) (by omega) (by rw [FU_eq]; omega) ⟨rfl, fun _ _ h => by omega, chgF.rf _ _⟩
    · rintro fl j ⟨y, x⟩ hj ⟨rfl, hy, cy⟩
      dsimp only at hy cy ⊢
      have I2 := I.chg cy.q
      have hO2 := I2.1
      obtain ⟨g, hg⟩ := o_s272 hO2
      have hw : ∀ z : Int, sI y 100 (some (o + 272)) j z = some (wr y (o + 272) j z) := fun z => sI_s hg z (by omega) (by omega) (by omega)
      right
      refine ⟨(wr y (o + 272) j (lay0 (fun _ => true) fr j), ((j + 1 : Nat) : Int)), ?_, rfl, ?_, cy.wr _ _⟩
      · rw [f_X0_laysWays_L2]
        unfold lay0
        by_cases d1 : (j : Int) = fr
        · simp (disch := omega) only [↓reduceIte, Bool.false_eq_true, nrm_i, ltT, ltF, leT, leF, eqT, eqF, not_true_eq_false, not_false_eq_true, and_self, and_true, true_and, false_and, and_false, or_true, true_or, or_false, false_or, ↓btS, ↓bnS, ↓bdS, ↓jnS, ↓obS, ↓o_rcv hO2, ↓h_rooms I2, ↓o_g17 hO2, ↓obP (hw _)]; rfl
        · simp (disch := omega) only [↓reduceIte, Bool.false_eq_true, nrm_i, ltT, ltF, leT, leF, eqT, eqF, not_true_eq_false, not_false_eq_true, and_self, and_true, true_and, false_and, and_false, or_true, true_or, or_false, false_or, ↓btS, ↓bnS, ↓bdS, ↓jnS, ↓obS, ↓o_rcv hO2, ↓h_rooms I2, ↓o_g17 hO2, d1, ↓obP (hw _)]; rfl
      · intro x x0 x1
        dsimp only
        rw [wr_ci (h := hg)]
        by_cases e : x = j
        · rw [e, fuE]
        · rw [fuN _ _ e]; exact hy x x0 (by omega)
    · rintro fl ⟨y, x⟩ ⟨rfl, hy, cy⟩
      dsimp only at hy cy ⊢
      have I2 := I.chg cy.q
      refine ⟨y, ?_, fun x x0 x1 => hy x x0 (by omega), cy⟩
      rw [f_X0_laysWays_L2, o_rcv I2.1, h_rooms I2, nrm_i (by omega) (by omega), nrm_i (by omega) (by omega), if_pos (by omega)]
  obtain ⟨τ1, e1, h1, c1⟩ := beg
  rw [e1]
  refine loop (S := Hp × Int) (fun fl z => f_X0_laysWays_L36 o fl z.1 z.2 (fun s52 => some ((), s52))) (fun w => ∃ τ' : Hp, w = some ((), τ') ∧ HF X o (dC X (fun _ => true) fr) τ' ∧ chgF o τ τ')
    (fun j z => z.2 = (j : Int) ∧ HF X o (itr (fun _ f => rndR X (fun _ => true) f) j (lay0 (fun _ => true) fr)) z.1 ∧ chgF o τ z.1) (xR X).toNat ?_ ?_ (xR X).toNat 0 FU (τ1, 0) (by omega) (by rw [FU_eq]; omega) ⟨rfl, h1, c1⟩
  · rintro fl j ⟨y, x⟩ hj ⟨rfl, hy, cy⟩
    dsimp only at hy cy ⊢
    have I2 := I.chg cy.q
    have hO2 := I2.1
    have hss : SndF X (fun _ => true) fr (itr (fun _ f => rndR X (fun _ => true) f) j (lay0 (fun _ => true) fr)) := itr_inv (P := SndF X (fun _ => true) fr) (N := j) (fun i a _ ha => rndR_snd hX ha) lay0_snd j (Nat.le_refl _)
    obtain ⟨y2, e2, h2, c2⟩ := h_lw46 I2 hy hss j (fun s50 x2 => f_X0_laysWays_L36 o fl s50 (x2 + 1) (fun s52 => some ((), s52)))
    right
    refine ⟨(y2, ((j + 1 : Nat) : Int)), ?_, rfl, h2, cy.tr c2⟩
    rw [f_X0_laysWays_L36, o_rcv hO2, h_rooms I2, nrm_i (by omega) (by omega), nrm_i (by omega) (by omega), if_neg (by omega), e2]
    rfl
  · rintro fl ⟨y, x⟩ ⟨rfl, hy, cy⟩
    dsimp only at hy cy ⊢
    have I2 := I.chg cy.q
    refine ⟨y, ?_, fun x x0 x1 => (hy x x0 x1).trans (layR_eq hX hf x0 x1), cy⟩
    rw [f_X0_laysWays_L36, o_rcv I2.1, h_rooms I2, nrm_i (by omega) (by omega), nrm_i (by omega) (by omega), if_pos (by omega)]
end

set_option maxRecDepth 100000
set_option maxHeartbeats 4000000
section
variable {X : Txt} {A A' : Int → Bool} {fr : Int}
theorem Rb_congr (hX : WfX X) (hf : 0 ≤ fr ∧ fr < xR X) (h : ∀ x : Int, 0 ≤ x → x < xR X → A x = A' x) : ∀ (n : Nat) (r : Int), Rb X A fr n r = Rb X A' fr n r := by
  intro n
  induction n with
  | zero => intro r; show (decide (r = fr) && A fr) = (decide (r = fr) && A' fr); rw [h fr hf.1 hf.2]
  | succ n ih =>
    intro r
    rw [Rb_s, Rb_s, ih r]
    have e : (fun b : Nat => adj X b r && Rb X A fr n b) = (fun b : Nat => adj X b r && Rb X A' fr n b) := by funext b; rw [ih]
    rw [e]
    cases hc : anyN (fun b : Nat => adj X b r && Rb X A' fr n b) 8 with
    | false => rw [Bool.and_false, Bool.and_false]
    | true =>
      obtain ⟨b, hb, h2⟩ := anyN_t.mp hc
      rw [Bool.and_eq_true] at h2
      have hi := (adj_in hX h2.1).2.1
      rw [h r hi.1 hi.2]
theorem dO_congr (hX : WfX X) (hf : 0 ≤ fr ∧ fr < xR X) (h : ∀ x : Int, 0 ≤ x → x < xR X → A x = A' x) (r : Int) : dO X A fr r = dO X A' fr r := by
  unfold dO
  have e : (fun n => Rb X A fr n r) = fun n => Rb X A' fr n r := by funext n; exact Rb_congr hX hf h n r
  rw [e]
theorem dT_congr (hX : WfX X) (hf : 0 ≤ fr ∧ fr < xR X) (h : ∀ x : Int, 0 ≤ x → x < xR X → A x = A' x) (r : Int) : dT X A fr r = dT X A' fr r := by
  unfold dT
  rw [dO_congr hX hf h]
theorem dT_in (r : Int) : -1 ≤ dT X A fr r ∧ dT X A fr r ≤ 8 := by
  unfold dT
  cases h : dO X A fr r with
  | none => exact ⟨by decide, by decide⟩
  | some n => have := (dO_spec h).2.2; dsimp only; omega
theorem dC_dT (r : Int) : (dT X A fr r = -1 ∧ dC X A fr r = 1000000) ∨ (0 ≤ dT X A fr r ∧ dC X A fr r = dT X A fr r) := by
  unfold dT dC
  cases h : dO X A fr r with
  | none => exact Or.inl ⟨rfl, rfl⟩
  | some n => exact Or.inr ⟨Int.natCast_nonneg _, rfl⟩
end
def hdA (X : Txt) (K : Crt) : Int → Bool := fun x => !wtB X K x
def hdP (X : Txt) (K : Crt) (x y : Int) (n : Int) (j : Nat) : Bool := decide (dT X (hdA X K) y (thr1 X x ((j : Int) + 1)) = n - 1)
def q_hidden (X : Txt) (K : Crt) (x y z : Int) : Int := if (0 ≤ x ∧ x < xR X) ∧ (0 ≤ y ∧ y < xR X) ∧ (0 ≤ z ∧ z ≤ 1) then
  (if dT X (hdA X K) y x < 0 then -2 else if z = 0 then dT X (hdA X K) y x else if x = y then x else match fnd (hdP X K x y (dT X (hdA X K) y x)) 0 (wys X x).toNat with
    | some j => thr1 X x ((j : Int) + 1)
    | none => -2) else -1
def vwP (X : Txt) (K : Crt) (m x y : Int) (k i : Nat) : Bool := wsP X K x y k i && (decide (0 ≤ dT X (fun _ => true) (kW K m (kMi K)) (kH (kEnd X K) k (kMi K + i))) && decide (dT X (fun _ => true) (kW K m (kMi K)) (kH (kEnd X K) k (kMi K + i)) ≤ i))
def q_view (X : Txt) (K : Crt) (m x y z : Int) : Int := if (0 ≤ m ∧ m < xM X) ∧ (0 ≤ x ∧ x < xR X) ∧ (0 ≤ y ∧ y ≤ kMi K) ∧ (0 ≤ z ∧ z ≤ 1) then (match itE (f2d (vwP X K m x y) (xK X).toNat) 0 (tEn K) () with | .inl _ => -2 | .inr q => if z = 0 then kMi K + q.1 else (q.2 : Int)) else -1
section
variable {X : Txt} {K : Crt}
/-- nought steps: the same room -/
theorem dT_0 {A : Int → Bool} {x y : Int} (h : 0 ≤ dT X A y x) : dT X A y x = 0 ↔ x = y := by
  unfold dT at h ⊢
  cases hd : dO X A y x with
  | none => rw [hd] at h; exact absurd h (by decide)
  | some n =>
    obtain ⟨h1, h2, h3⟩ := dO_spec hd
    dsimp only
    constructor
    · intro e
      have : n = 0 := by omega
      subst this
      have h1 : (decide (x = y) && A y) = true := h1
      rw [Bool.and_eq_true, decide_eq_true_iff] at h1
      exact h1.1
    · intro e
      have hA := Rb_A h1
      have h0 : Rb X A y 0 x = true := by
        show (decide (x = y) && A y) = true
        rw [← e, hA]; simp
      by_cases c : 0 < n
      · rw [h2 0 c] at h0; cases h0
      · omega
/-- a door leads nearer -/
theorem hd_some (hX : WfX X) {x y : Int} (h : 0 ≤ dT X (hdA X K) y x) (hxy : ¬ x = y) : ∃ j : Nat, fnd (hdP X K x y (dT X (hdA X K) y x)) 0 (wys X x).toNat = some j ∧ (j : Int) < wys X x ∧ dT X (hdA X K) y (thr1 X x ((j : Int) + 1)) = dT X (hdA X K) y x - 1 ∧ ∀ i : Nat, i < j → ¬ dT X (hdA X K) y (thr1 X x ((i : Int) + 1)) = dT X (hdA X K) y x - 1 := by
  have h0 : ¬ dT X (hdA X K) y x = 0 := fun e => hxy ((dT_0 h).mp e)
  have hw := wys_le hX x
  cases hf : fnd (hdP X K x y (dT X (hdA X K) y x)) 0 (wys X x).toNat with
  | some j =>
    obtain ⟨g1, g2, g3⟩ := fnd_s hf
    refine ⟨j, rfl, by omega, ?_, fun i hi e => ?_⟩
    · unfold hdP at g2; exact of_decide_eq_true g2
    · have := g3 i (Nat.zero_le _) hi
      unfold hdP at this
      rw [decide_eq_true e] at this
      cases this
  | none =>
    exfalso
    have hn := fnd_n.mp hf
    cases hd : dO X (hdA X K) y x with
    | none => unfold dT at h; rw [hd] at h; exact absurd h (by decide)
    | some n =>
      have e : dT X (hdA X K) y x = n := by unfold dT; rw [hd]
      obtain ⟨n, rfl⟩ : ∃ q, n = q + 1 := ⟨n - 1, by omega⟩
      obtain ⟨b, hb, hdb⟩ := dO_near hX hd
      obtain ⟨j, hj, ej⟩ := thr_adj hb
      have := hn j (Nat.zero_le _) (by omega)
      unfold hdP at this
      rw [ej, e, decide_eq_true (by unfold dT; rw [hdb]; dsimp only; omega)] at this
      cases this
end
section
variable {Z : Nat → Prop} {σ σ' τ : Hp} {o r a : Nat} {X : Txt} {K E : Crt} {β : Type}
theorem h_hidden (I : QI Z σ o r X K) {x y z : Int} (wx : wd x) (wy : wd y) (wz : wd z) : ∃ σ' : Hp, f_X0_hidden σ o x y z = some (q_hidden X K x y z, σ') ∧ chgQ o σ σ' := by
  obtain ⟨hO, hx, hZ, hK, hX, hW⟩ := I
  have I : QI Z σ o r X K := ⟨hO, hx, hZ, hK, hX, hW⟩
  have J := I.ci
  have hc := hO.court
  have a0 := hX.1
  have a1 := hX.2.2.1
  have a4 := hX.2.2.2.1
  have a2 := hW.1
  unfold f_X0_hidden q_hidden
  by_cases G : (0 ≤ x ∧ x < xR X) ∧ (0 ≤ y ∧ y < xR X) ∧ (0 ≤ z ∧ z ≤ 1)
  · rw [if_pos G]
    obtain ⟨c1, c2, c3⟩ := G
    obtain ⟨σ1, e1, h1, q1⟩ := h_laysFar I c2
    have I1 := I.chg q1
    have hO1 := I1.1
    have hd := dT_in (X := X) (A := hdA X K) (fr := y) x
    have hcx : dC X (fun x => !wtB X K x) y x = dC X (hdA X K) y x := rfl
    have hcd := dC_dT (X := X) (A := hdA X K) (fr := y) x
    have g1 : ∀ {v : Int}, 0 ≤ v → v < xR X → aI σ1 100 (some (o + 272)) v = some (dC X (hdA X K) y v) := fun h0 h2 => by
      obtain ⟨g, hg⟩ := o_s272 hO1
      rw [aI_s hg h0 (by omega) (by omega), h1 _ h0 h2]
      rfl
    have gx := g1 c1.1 c1.2
    by_cases d1 : dT X (hdA X K) y x < 0
    · rw [if_pos d1]
      have ec : dC X (hdA X K) y x = 1000000 := by omega
      rw [ec] at gx
      refine ⟨σ1, ?_, q1⟩
      simp (disch := omega) only [↓reduceIte, Bool.false_eq_true, nrm_i, ltT, ltF, leT, leF, eqT, eqF, not_true_eq_false, not_false_eq_true, and_self, and_true, true_and, false_and, and_false, or_true, true_or, or_false, false_or, ↓btS, ↓bnS, ↓bdS, ↓jnS, ↓obS, ↓i_t, ↓i_f, ↓man_t I, ↓man_f I, ↓room_t I, ↓room_f I, ↓mir_t I, ↓mir_f I, ↓pas_t I, ↓pas_f I, ↓h_men I, ↓h_rooms I, ↓h_mirrors I, ↓o_rcv hO, ↓o_gI hO, ↓o_g3 hO, ↓o_g7 hO, ↓o_g8 hO, ↓o_g12 hO, ↓bnP e1, ↓o_g17 hO1, ↓obP gx]
    · rw [if_neg d1]
      have ec : dC X (hdA X K) y x = dT X (hdA X K) y x := by omega
      rw [ec] at gx
      by_cases d2 : z = 0
      · rw [if_pos d2]
        refine ⟨σ1, ?_, q1⟩
        simp (disch := omega) only [↓reduceIte, Bool.false_eq_true, nrm_i, ltT, ltF, leT, leF, eqT, eqF, not_true_eq_false, not_false_eq_true, and_self, and_true, true_and, false_and, and_false, or_true, true_or, or_false, false_or, ↓btS, ↓bnS, ↓bdS, ↓jnS, ↓obS, ↓i_t, ↓i_f, ↓man_t I, ↓man_f I, ↓room_t I, ↓room_f I, ↓mir_t I, ↓mir_f I, ↓pas_t I, ↓pas_f I, ↓h_men I, ↓h_rooms I, ↓h_mirrors I, ↓o_rcv hO, ↓o_gI hO, ↓o_g3 hO, ↓o_g7 hO, ↓o_g8 hO, ↓o_g12 hO, ↓bnP e1, ↓o_g17 hO1, ↓obP gx, d2]
      · rw [if_neg d2]
        by_cases d3 : x = y
        · rw [if_pos d3]
          have e0 := (dT_0 (X := X) (A := hdA X K) (x := x) (y := y) (by omega)).mpr d3
          rw [e0] at gx
          refine ⟨σ1, ?_, q1⟩
          simp (disch := omega) only [↓reduceIte, Bool.false_eq_true, nrm_i, ltT, ltF, leT, leF, eqT, eqF, not_true_eq_false, not_false_eq_true, and_self, and_true, true_and, false_and, and_false, or_true, true_or, or_false, false_or, ↓btS, ↓bnS, ↓bdS, ↓jnS, ↓obS, ↓i_t, ↓i_f, ↓man_t I, ↓man_f I, ↓room_t I, ↓room_f I, ↓mir_t I, ↓mir_f I, ↓pas_t I, ↓pas_f I, ↓h_men I, ↓h_rooms I, ↓h_mirrors I, ↓o_rcv hO, ↓o_gI hO, ↓o_g3 hO, ↓o_g7 hO, ↓o_g8 hO, ↓o_g12 hO, ↓bnP e1, ↓o_g17 hO1, ↓obP gx, d2]
        · rw [if_neg d3]
          have e0 : ¬ dT X (hdA X K) y x = 0 := fun e => d3 ((dT_0 (by omega)).mp e)
          obtain ⟨j, j1, j2, j3, j4⟩ := hd_some hX (K := K) (x := x) (y := y) (by omega) d3
          rw [j1]
          have hwy := wys_le hX x
          obtain ⟨br, er, r1, r2, r3⟩ := x_rooms I1.2.1
          obtain ⟨z1, g, d, gd, s1, s2, -, s4, s5, s6⟩ := r3 x c1.1 c1.2
          have hg1 : gR σ1 10 (some (er x)) 1 = some (some d) := by rw [gR_s s1, s2]
          have hdr : ∀ i : Nat, (i : Int) < wys X x → aI σ1 100 (some d) i = some (thr1 X x ((i : Int) + 1)) := fun i hi => by rw [aI_s s4 (by omega) (by omega) (by omega), s6 _ (by omega) hi]
          have lp : f_X0_hidden_L94 o FU σ1 x (some (er x)) 0 (fun s32 x4 x5 => (gR s32 10 x4 1).bind fun v33 => (aI s32 100 v33 x5).bind fun v34 => some (v34, s32)) = some (thr1 X x ((j : Int) + 1), σ1) := by
            refine loop (S := Int) (fun fl q => f_X0_hidden_L94 o fl σ1 x (some (er x)) q (fun s32 x4 x5 => (gR s32 10 x4 1).bind fun v33 => (aI s32 100 v33 x5).bind fun v34 => some (v34, s32))) (· = some (thr1 X x ((j : Int) + 1), σ1)) (fun i q => q = (i : Int)) j ?_ ?_ j 0 FU 0 (by omega) (by rw [FU_eq]; omega) rfl
            · rintro fl i q hi rfl
              have ha := adj_in hX (adj_thr (X := X) (r := x) (j := (i : Int) + 1) (by omega) (by omega))
              have hdi := hdr i (by omega)
              have hgi := g1 ha.2.1.1 ha.2.1.2
              have hci := dC_dT (X := X) (A := hdA X K) (fr := y) (thr1 X x ((i : Int) + 1))
              have hti := dT_in (X := X) (A := hdA X K) (fr := y) (thr1 X x ((i : Int) + 1))
              have hne := j4 i hi
              right
              refine ⟨((i + 1 : Nat) : Int), ?_, rfl⟩
              rw [f_X0_hidden_L94, o_g17 hO1, obP hg1, obP hdi, obP hgi, o_g17 hO1, obP gx, nrm_i (by omega) (by omega), nrm_i (by omega) (by omega), if_neg (by omega)]
              rfl
            · rintro fl q rfl
              have ha := adj_in hX (adj_thr (X := X) (r := x) (j := (j : Int) + 1) (by omega) (by omega))
              have hdi := hdr j j2
              have hgi := g1 ha.2.1.1 ha.2.1.2
              have hci := dC_dT (X := X) (A := hdA X K) (fr := y) (thr1 X x ((j : Int) + 1))
              rw [f_X0_hidden_L94, o_g17 hO1, obP hg1, obP hdi, obP hgi, o_g17 hO1, obP gx, nrm_i (by omega) (by omega), nrm_i (by omega) (by omega), if_pos (by omega), obP hg1, obP hdi]
          refine ⟨σ1, ?_, q1⟩
          simp (disch := omega) only [↓reduceIte, Bool.false_eq_true, nrm_i, ltT, ltF, leT, leF, eqT, eqF, not_true_eq_false, not_false_eq_true, and_self, and_true, true_and, false_and, and_false, or_true, true_or, or_false, false_or, ↓btS, ↓bnS, ↓bdS, ↓jnS, ↓obS, ↓i_t, ↓i_f, ↓man_t I, ↓man_f I, ↓room_t I, ↓room_f I, ↓mir_t I, ↓mir_f I, ↓pas_t I, ↓pas_f I, ↓h_men I, ↓h_rooms I, ↓h_mirrors I, ↓o_rcv hO, ↓o_gI hO, ↓o_g3 hO, ↓o_g7 hO, ↓o_g8 hO, ↓o_g12 hO, ↓bnP e1, ↓o_g17 hO1, ↓obP gx, d2, ↓o_g3 hO1, ↓obP r1, ↓l_rcvb r2, ↓l_getb r2, ↓kst_1 s1, ↓lp]
  · rw [if_neg G]
    refine ⟨σ, ?_, chgQ.rf _ _⟩
    by_cases c1 : 0 ≤ x ∧ x < xR X
    · by_cases c2 : 0 ≤ y ∧ y < xR X
      · by_cases c3 : 0 ≤ z ∧ z ≤ 1
        · exact absurd ⟨c1, c2, c3⟩ G
        · simp (disch := omega) only [↓reduceIte, Bool.false_eq_true, nrm_i, ltT, ltF, leT, leF, eqT, eqF, not_true_eq_false, not_false_eq_true, and_self, and_true, true_and, false_and, and_false, or_true, true_or, or_false, false_or, ↓btS, ↓bnS, ↓bdS, ↓jnS, ↓obS, ↓i_t, ↓i_f, ↓man_t I, ↓man_f I, ↓room_t I, ↓room_f I, ↓mir_t I, ↓mir_f I, ↓pas_t I, ↓pas_f I, ↓h_men I, ↓h_rooms I, ↓h_mirrors I, ↓o_rcv hO, ↓o_gI hO, ↓o_g3 hO, ↓o_g7 hO, ↓o_g8 hO, ↓o_g12 hO]
      · simp (disch := omega) only [↓reduceIte, Bool.false_eq_true, nrm_i, ltT, ltF, leT, leF, eqT, eqF, not_true_eq_false, not_false_eq_true, and_self, and_true, true_and, false_and, and_false, or_true, true_or, or_false, false_or, ↓btS, ↓bnS, ↓bdS, ↓jnS, ↓obS, ↓i_t, ↓i_f, ↓man_t I, ↓man_f I, ↓room_t I, ↓room_f I, ↓mir_t I, ↓mir_f I, ↓pas_t I, ↓pas_f I, ↓h_men I, ↓h_rooms I, ↓h_mirrors I, ↓o_rcv hO, ↓o_gI hO, ↓o_g3 hO, ↓o_g7 hO, ↓o_g8 hO, ↓o_g12 hO]
    · simp (disch := omega) only [↓reduceIte, Bool.false_eq_true, nrm_i, ltT, ltF, leT, leF, eqT, eqF, not_true_eq_false, not_false_eq_true, and_self, and_true, true_and, false_and, and_false, or_true, true_or, or_false, false_or, ↓btS, ↓bnS, ↓bdS, ↓jnS, ↓obS, ↓i_t, ↓i_f, ↓man_t I, ↓man_f I, ↓room_t I, ↓room_f I, ↓mir_t I, ↓mir_f I, ↓pas_t I, ↓pas_f I, ↓h_men I, ↓h_rooms I, ↓h_mirrors I, ↓o_rcv hO, ↓o_gI hO, ↓o_g3 hO, ↓o_g7 hO, ↓o_g8 hO, ↓o_g12 hO]
theorem h_view (I : QI Z σ o r X K) {m x y z : Int} (wm : wd m) (wx : wd x) (wy : wd y) (wz : wd z) : ∃ σ' : Hp, f_X0_view σ o m x y z = some (q_view X K m x y z, σ') ∧ chgQ o σ σ' := by
  obtain ⟨hO, hx, hZ, hK, hX, hW⟩ := I
  have I : QI Z σ o r X K := ⟨hO, hx, hZ, hK, hX, hW⟩
  have J := I.ci
  have hc := hO.court
  have a0 := hX.1
  have a1 := hX.2.2.1
  have a4 := hX.2.2.2.1
  have a2 := hW.1
  unfold f_X0_view q_view
  by_cases G : (0 ≤ m ∧ m < xM X) ∧ (0 ≤ x ∧ x < xR X) ∧ (0 ≤ y ∧ y ≤ kMi K) ∧ (0 ≤ z ∧ z ≤ 1)
  · rw [if_pos G]
    obtain ⟨c0, c1, c2, c3⟩ := G
    have hw := (hW.2.1 m (kMi K) c0.1 c0.2 a2.1 (Int.le_refl _)).1
    obtain ⟨σ1, e1, J1, q1⟩ := h_goesToEnd I
    have I1 := I.chg q1
    have hO1 := I1.1
    have hc1 := hO1.court
    have Jc := I1.ci
    obtain ⟨σ2, e2, h2, q2⟩ := h_laysWays I1 hw
    have I2 := I1.chg q2.q
    have hO2 := I2.1
    have J2 : CI Z σ2 (o + 61) r X (kEnd X K) := ⟨hO2.trial, I2.2.1, J1.2.2.1.same q2 (fun k hk h => by omega) hX, hX, J1.2.2.2.2⟩
    have hcT := hO2.trial
    obtain ⟨hWE, hE⟩ := kEnd_ok hX hW
    refine ⟨σ2, ?_, q1.tr q2.q⟩
    have gF : ∀ {v : Int}, 0 ≤ v → v < xR X → aI σ2 100 (some (o + 272)) v = some (dC X (fun _ => true) (kW K m (kMi K)) v) := fun h0 h3 => by
      obtain ⟨g, hg⟩ := o_s272 hO2
      rw [aI_s hg h0 (by omega) (by omega), h2 _ h0 h3]
    have lp : f_X0_view_L70 o FU σ2 x y z (kMi K) (fun s50 => some (-2, s50)) = some ((match itE (f2d (vwP X K m x y) (xK X).toNat) 0 (tEn K) () with | .inl _ => -2 | .inr q => if z = 0 then kMi K + q.1 else (q.2 : Int)), σ2) := by
      obtain ⟨e, -⟩ := loop0 (fun fl (_ : Unit) i => f_X0_view_L70 o fl σ2 x y z i (fun s50 => some (-2, s50))) (fun _ => some (-2, σ2)) (fun q => some (if z = 0 then kMi K + q.1 else (q.2 : Int), σ2)) (f2d (vwP X K m x y) (xK X).toNat) (fun _ _ => True) (tEn K) (kMi K) (fl := FU) (a0 := ()) (by rw [FU_eq]; unfold tEn; omega) trivial (fun fl i _ hi _ => by
          refine ⟨?_, fun _ _ => trivial⟩
          unfold tEn at hi
          rw [f_X0_view_L70, nrm_i (z := 300) (by decide) (by decide), nrm_i (z := kMi K + i) (by omega) (by omega), if_neg (by omega)]
          have e := loopF (fun f k => f_X0_view_L81 o f σ2 x y z (kMi K + i) k (fun s48 x2 x3 x4 x5 => f_X0_view_L70 o fl s48 x2 x3 x4 (x5 + 1) (fun s50 => some (-2, s50)))) (f_X0_view_L70 o fl σ2 x y z (kMi K + i + 1) (fun s50 => some (-2, s50))) (fun k => some (if z = 0 then kMi K + i else (k : Int), σ2)) (fun k => vwP X K m x y k i) (xK X).toNat 0 (fl := FU) (by rw [FU_eq]; omega) (fun f k hk => by
              have hh := (hWE.2.2.1 k (kMi K + i) (by omega) (by omega) (by omega) (by omega)).1
              have hcd := dC_dT (X := X) (A := fun _ => true) (fr := kW K m (kMi K)) (kH (kEnd X K) k (kMi K + i))
              have htd := dT_in (X := X) (A := fun _ => true) (fr := kW K m (kMi K)) (kH (kEnd X K) k (kMi K + i))
              have gf := gF hh.1 hh.2
              have nS := n_S hWE (k := k) (t := kMi K + i) (by omega) (by omega) (by omega) (by omega)
              have nH := n_H hX hWE (k := k) (t := y) (by omega) (by omega) c2.1 (by omega)
              rw [f_X0_view_L81, Int.zero_add, o_rcv hO2, h_mirrors I2, nrm_i (z := xK X) (by omega) (by omega), nrm_i (z := (k : Int)) (by omega) (by omega), if_neg (by omega), o_g8 hO2, c_ob hcT, hb_shows J2 (by omega) (by omega) (by omega) (by omega), nS, nrm_i (z := y) (by omega) (by omega)]
              unfold vwP wsP
              by_cases d1 : shw (kEnd X K) k (kMi K + i) = y
              · rw [d1, if_neg (fun h => h rfl), o_g8 hO2, c_g2b hcT, c_r2b hcT (by omega) (by omega), cb_H J2 (by omega) (by omega) c2.1 (by omega), nH, nrm_i (z := x) (by omega) (by omega)]
                by_cases d2 : kH (kEnd X K) k y = x
                · rw [if_neg (fun h => h d2), o_g17 hO2, o_g8 hO2, c_g2b hcT, c_r2b hcT (by omega) (by omega), cb_H J2 (by omega) (by omega) (by omega) (by omega), obP gf, o_g7 hO2, cb_mi I2.ci, show kMi K + (i : Int) - kMi K = i by omega, nrm_i (z := (i : Int)) (by omega) (by omega), nrm_i (z := dC X (fun _ => true) (kW K m (kMi K)) (kH (kEnd X K) k (kMi K + i))) (by omega) (by omega), nrm_i (z := z) (by omega) (by omega), nrm_i (z := kMi K + i) (by omega) (by omega), decide_eq_true d2]
                  by_cases d3 : (i : Int) < dC X (fun _ => true) (kW K m (kMi K)) (kH (kEnd X K) k (kMi K + i))
                  · rw [if_pos d3, if_neg]
                    simp only [decide_true, Bool.true_and, Bool.and_eq_true, decide_eq_true_iff]
                    omega
                  · have hb : (decide (y = y) && true && (decide (0 ≤ dT X (fun _ => true) (kW K m (kMi K)) (kH (kEnd X K) k (kMi K + i))) && decide (dT X (fun _ => true) (kW K m (kMi K)) (kH (kEnd X K) k (kMi K + i)) ≤ i))) = true := by
                      simp only [decide_true, Bool.true_and, Bool.and_eq_true, decide_eq_true_iff]; omega
                    rw [if_neg d3, if_pos hb]
                    by_cases d4 : z = 0
                    · rw [if_neg (fun h => h d4), if_pos d4]
                    · rw [if_pos d4, if_neg d4]
                · rw [if_pos d2, decide_eq_false d2]
                  simp
              · rw [if_pos d1, decide_eq_false d1]
                simp)
            (fun f => by
              rw [f_X0_view_L81, Int.zero_add, o_rcv hO2, h_mirrors I2, nrm_i (by omega) (by omega), nrm_i (by omega) (by omega), if_pos (by omega)])
          refine e.trans ?_
          unfold f2d
          cases fnd (fun k => vwP X K m x y k i) 0 (xK X).toNat with
          | some v => rfl
          | none => rfl)
        (fun fl _ _ => by
          have e : kMi K + (tEn K : Int) = 300 := by unfold tEn; omega
          rw [f_X0_view_L70, e, if_pos (by decide)])
      refine e.trans ?_
      cases itE (f2d (vwP X K m x y) (xK X).toNat) 0 (tEn K) () with
      | inl u => rfl
      | inr q => rfl
    clear gF
    simp (disch := omega) only [↓reduceIte, Bool.false_eq_true, nrm_i, ltT, ltF, leT, leF, eqT, eqF, not_true_eq_false, not_false_eq_true, and_self, and_true, true_and, false_and, and_false, or_true, true_or, or_false, false_or, ↓btS, ↓bnS, ↓bdS, ↓jnS, ↓obS, ↓i_t, ↓i_f, ↓man_t I, ↓man_f I, ↓room_t I, ↓room_f I, ↓mir_t I, ↓mir_f I, ↓pas_t I, ↓pas_f I, ↓h_men I, ↓h_rooms I, ↓h_mirrors I, ↓o_rcv hO, ↓o_gI hO, ↓o_g3 hO, ↓o_g7 hO, ↓o_g8 hO, ↓o_g12 hO, ↓bnP e1, ↓o_g7 hO1, ↓c_g0b hc1, ↓c_r0b hc1, ↓cb_mi Jc, ↓cb_W Jc, ↓o_rcv hO1, ↓bnP e2, ↓o_g7 hO2, ↓cb_mi I2.ci, ↓lp]
  · rw [if_neg G]
    refine ⟨σ, ?_, chgQ.rf _ _⟩
    by_cases c1 : 0 ≤ m ∧ m < xM X
    · by_cases c2 : 0 ≤ x ∧ x < xR X
      · by_cases c3 : 0 ≤ y ∧ y ≤ kMi K
        · by_cases c4 : 0 ≤ z ∧ z ≤ 1
          · exact absurd ⟨c1, c2, c3, c4⟩ G
          · simp (disch := omega) only [↓reduceIte, Bool.false_eq_true, nrm_i, ltT, ltF, leT, leF, eqT, eqF, not_true_eq_false, not_false_eq_true, and_self, and_true, true_and, false_and, and_false, or_true, true_or, or_false, false_or, ↓btS, ↓bnS, ↓bdS, ↓jnS, ↓obS, ↓i_t, ↓i_f, ↓man_t I, ↓man_f I, ↓room_t I, ↓room_f I, ↓mir_t I, ↓mir_f I, ↓pas_t I, ↓pas_f I, ↓h_men I, ↓h_rooms I, ↓h_mirrors I, ↓o_rcv hO, ↓o_gI hO, ↓o_g3 hO, ↓o_g7 hO, ↓o_g8 hO, ↓o_g12 hO]
        · simp (disch := omega) only [↓reduceIte, Bool.false_eq_true, nrm_i, ltT, ltF, leT, leF, eqT, eqF, not_true_eq_false, not_false_eq_true, and_self, and_true, true_and, false_and, and_false, or_true, true_or, or_false, false_or, ↓btS, ↓bnS, ↓bdS, ↓jnS, ↓obS, ↓i_t, ↓i_f, ↓man_t I, ↓man_f I, ↓room_t I, ↓room_f I, ↓mir_t I, ↓mir_f I, ↓pas_t I, ↓pas_f I, ↓h_men I, ↓h_rooms I, ↓h_mirrors I, ↓o_rcv hO, ↓o_gI hO, ↓o_g3 hO, ↓o_g7 hO, ↓o_g8 hO, ↓o_g12 hO]
      · simp (disch := omega) only [↓reduceIte, Bool.false_eq_true, nrm_i, ltT, ltF, leT, leF, eqT, eqF, not_true_eq_false, not_false_eq_true, and_self, and_true, true_and, false_and, and_false, or_true, true_or, or_false, false_or, ↓btS, ↓bnS, ↓bdS, ↓jnS, ↓obS, ↓i_t, ↓i_f, ↓man_t I, ↓man_f I, ↓room_t I, ↓room_f I, ↓mir_t I, ↓mir_f I, ↓pas_t I, ↓pas_f I, ↓h_men I, ↓h_rooms I, ↓h_mirrors I, ↓o_rcv hO, ↓o_gI hO, ↓o_g3 hO, ↓o_g7 hO, ↓o_g8 hO, ↓o_g12 hO]
    · simp (disch := omega) only [↓reduceIte, Bool.false_eq_true, nrm_i, ltT, ltF, leT, leF, eqT, eqF, not_true_eq_false, not_false_eq_true, and_self, and_true, true_and, false_and, and_false, or_true, true_or, or_false, false_or, ↓btS, ↓bnS, ↓bdS, ↓jnS, ↓obS, ↓i_t, ↓i_f, ↓man_t I, ↓man_f I, ↓room_t I, ↓room_f I, ↓mir_t I, ↓mir_f I, ↓pas_t I, ↓pas_f I, ↓h_men I, ↓h_rooms I, ↓h_mirrors I, ↓o_rcv hO, ↓o_gI hO, ↓o_g3 hO, ↓o_g7 hO, ↓o_g8 hO, ↓o_g12 hO]
end

set_option maxRecDepth 100000
set_option maxHeartbeats 4000000
/-- a set of rooms: those of mirrors that watch -/
def wtG (X : Txt) (K : Crt) (k : Nat) (a : Nat) : Nat := if kU K k (kMi K) = 0 ∧ kB K k = 300 then a ||| 2 ^ (kH K k (kMi K)).toNat else a
def wtS (X : Txt) (K : Crt) : Nat := itr (wtG X K) (xK X).toNat 0
theorem an255 : ∀ x : Nat, x < 256 → anI 255 (xoI (x : Int) (-1)) = ((255 - x : Nat) : Int) := by decide +kernel
theorem b255 : ∀ x : Nat, x < 256 → ∀ j : Nat, j < 8 → (255 - x).testBit j = !x.testBit j := by decide +kernel
theorem pw8 {v : Int} (h0 : 0 ≤ v) (h1 : v < 8) : 2 ^ v.toNat < 256 := Nat.lt_of_le_of_lt ((Nat.pow_le_pow_right (by decide) (by omega) : 2 ^ v.toNat ≤ 2 ^ 7)) (by decide)
section
variable {s : TW} {X : Txt} {K : Crt} {β : Type} {fr : Int}
theorem wtS_ok (hX : WfX X) (hW : WfK X K) : ∀ n : Nat, (n : Int) ≤ xK X → itr (wtG X K) n 0 < 256 ∧ ∀ j : Nat, (itr (wtG X K) n 0).testBit j = anyN (fun k => (decide (kH K k (kMi K) = j) && decide (kU K k (kMi K) = 0)) && decide (kB K k = 300)) n := by
  have a2 := hW.1
  have a0 := hX.1
  intro n
  induction n with
  | zero => intro _; exact ⟨show (0 : Nat) < 256 by decide, fun j => Nat.zero_testBit j⟩
  | succ n ih =>
    intro hn
    obtain ⟨i1, i2⟩ := ih (by omega)
    have hh := (hW.2.2.1 n (kMi K) (by omega) (by omega) a2.1 (Int.le_refl _)).1
    have e : itr (wtG X K) (n + 1) 0 = wtG X K n (itr (wtG X K) n 0) := rfl
    have e2 : ∀ j : Nat, anyN (fun k => (decide (kH K k (kMi K) = j) && decide (kU K k (kMi K) = 0)) && decide (kB K k = 300)) (n + 1) = (anyN (fun k => (decide (kH K k (kMi K) = j) && decide (kU K k (kMi K) = 0)) && decide (kB K k = 300)) n || ((decide (kH K n (kMi K) = j) && decide (kU K n (kMi K) = 0)) && decide (kB K n = 300))) := fun _ => rfl
    rw [e]
    generalize itr (wtG X K) n 0 = a at i1 i2 ⊢
    unfold wtG
    by_cases c : kU K n (kMi K) = 0 ∧ kB K n = 300
    · rw [if_pos c]
      refine ⟨Nat.or_lt_two_pow (n := 8) i1 (pw8 hh.1 (by omega)), fun j => ?_⟩
      rw [e2, Nat.testBit_or, i2, Nat.testBit_two_pow, decide_eq_true c.1, decide_eq_true c.2, Bool.and_true, Bool.and_true]
      congr 1
      by_cases d : kH K n (kMi K) = j
      · rw [decide_eq_true d, decide_eq_true (by omega)]
      · rw [decide_eq_false d, decide_eq_false (by omega)]
    · rw [if_neg c]
      refine ⟨i1, fun j => ?_⟩
      rw [e2, i2]
      have : (decide (kU K n (kMi K) = 0) && decide (kB K n = 300)) = false := by
        cases h : (decide (kU K n (kMi K) = 0) && decide (kB K n = 300)) with
        | false => rfl
        | true => rw [Bool.and_eq_true, decide_eq_true_iff, decide_eq_true_iff] at h; exact absurd h c
      rw [Bool.and_assoc, this, Bool.and_false, Bool.or_false]
theorem wtS_bit (hX : WfX X) (hW : WfK X K) {x : Int} (h0 : 0 ≤ x) : (wtS X K).testBit x.toNat = wtB X K x := by
  have a4 := hX.2.2.2.1
  have := (wtS_ok hX hW (xK X).toNat (by omega)).2 x.toNat
  rw [show ((x.toNat : Nat) : Int) = x by omega] at this
  exact this
theorem wtS_lt (hX : WfX X) (hW : WfK X K) : wtS X K < 256 := by
  have a4 := hX.2.2.2.1
  exact (wtS_ok hX hW (xK X).toNat (by omega)).1
theorem tb_watched (J : TI s X K) (f : Int → TW → Option β) : bt_ (f_X8_watched s) f = f (wtS X K : Int) s := by
  have hX := J.1
  have hW := J.2.2.2
  have a0 := hX.1
  have a1 := hX.2.2.1
  have a4 := hX.2.2.2.1
  have a2 := hW.1
  have b3 := J.2.1.1
  have jmi := J.mi
  refine btP ?_ f
  unfold f_X8_watched wtS
  have hP := wtS_ok hX hW
  have lt := wtS_lt hX hW
  unfold wtS at lt
  refine loop (S := Int × Int) (fun fl q => f_X8_watched_L4 fl s q.1 q.2 (fun s10 x1 => some (nrm x1, s10))) (· = some (((itr (wtG X K) (xK X).toNat 0 : Nat) : Int), s)) (fun i q => q = (((itr (wtG X K) i 0 : Nat) : Int), (i : Int))) (xK X).toNat ?_ ?_ (xK X).toNat 0 FU (0, 0) (by omega) (by rw [FU_eq]; omega) rfl
  · rintro fl i q hi rfl
    have hp := (hP i (by omega)).1
    have hh := (hW.2.2.1 i (kMi K) (by omega) (by omega) a2.1 (Int.le_refl _)).1
    have hu := (hW.2.2.1 i (kMi K) (by omega) (by omega) a2.1 (Int.le_refl _)).2.1
    have hb := (hW.2.2.2 i (by omega) (by omega)).1
    have hpw := pw8 hh.1 (by omega)
    have e : itr (wtG X K) (i + 1) 0 = wtG X K i (itr (wtG X K) i 0) := rfl
    right
    refine ⟨(((itr (wtG X K) (i + 1) 0 : Nat) : Int), ((i + 1 : Nat) : Int)), ?_, rfl⟩
    dsimp only
    rw [e]
    generalize itr (wtG X K) i 0 = a at hp ⊢
    unfold wtG
    rw [f_X8_watched_L4, tz_K J.2.1, nrm_i (z := xK X) (by omega) (by omega), nrm_i (z := (i : Int)) (by omega) (by omega), if_neg (by omega), jmi, tb_isTurned J (by omega) (by omega) a2.1 (Int.le_refl _), n_U hW (by omega) (by omega) a2.1 (Int.le_refl _)]
    by_cases d1 : kU K i (kMi K) = 0
    · rw [if_neg (fun h => h d1), tv_B J (by omega) (by omega)]
      by_cases d2 : kB K i = 300
      · rw [if_pos d2, if_neg (by decide), jmi, tb_hungIn J (by omega) (by omega) a2.1 (Int.le_refl _), sl1 hh.1 (by omega), orI_nat _ _ (by omega) (by omega), if_pos ⟨d1, d2⟩]
        rfl
      · rw [if_neg d2, nrm_i (by omega) (by omega), nrm_i (z := -1) (by decide) (by decide), if_pos (by omega), if_neg (fun h => d2 h.2)]
        rfl
    · rw [if_pos d1, if_neg (fun h => d1 h.1)]
      rfl
  · rintro fl q rfl
    dsimp only
    rw [f_X8_watched_L4, tz_K J.2.1, nrm_i (z := xK X) (by omega) (by omega), nrm_i (z := (((xK X).toNat : Nat) : Int)) (by omega) (by omega), if_pos (by omega), nrm_i (by omega) (by omega)]
theorem t_hidden (Q : TQ s X K) {x y z : Int} (wx : wd x) (wy : wd y) (wz : wd z) : ∃ s' : TW, f_X8_hidden s x y z = some (q_hidden X K x y z, s') ∧ chg qk qf s s' := by
  obtain ⟨hX, hs, hn, hW⟩ := Q
  have Q : TQ s X K := ⟨hX, hs, hn, hW⟩
  have hmi := Q.mi
  have a0 := hX.1
  have a1 := hX.2.2.1
  have a4 := hX.2.2.2.1
  have a3 := hs.1
  have a2 := hW.1
  obtain ⟨s1, e1, J, l1, C⟩ := Q.copies
  have C := C.up (ks' := qk) (fs' := qf) (by decide) (by decide)
  have b3 := J.2.1.1
  have jmi := J.mi
  unfold f_X8_hidden q_hidden
  by_cases G : (0 ≤ x ∧ x < xR X) ∧ (0 ≤ y ∧ y < xR X) ∧ (0 ≤ z ∧ z ≤ 1)
  · rw [if_pos G]
    obtain ⟨c1, c2, c3⟩ := G
    have hlt := wtS_lt hX hW
    have hal := an255 _ hlt
    obtain ⟨s2, e2, h2, C2⟩ := t_fillsFar hX J.2.1 (w := 255 - wtS X K) (by omega) c2
    have hA : ∀ v : Int, 0 ≤ v → v < xR X → (255 - wtS X K).testBit v.toNat = hdA X K v := fun v v0 v1 => by
      rw [b255 _ hlt _ (by omega), wtS_bit hX hW v0]
      rfl
    have h3 : ∀ v : Int, 0 ≤ v → v < 8 → s2.2 66 v = dT X (hdA X K) y v := fun v v0 v1 => (h2 v v0 v1).trans (dT_congr hX c2 hA v)
    have CC : chg qk qf s s2 := C.tr (C2.up (by decide) (by decide))
    have hs2 : RepX s2 X := J.2.1.same (C2.text (by decide) (by decide))
    have e2' : ∀ {β : Type} (f : Unit → TW → Option β), bt_ (f_X8_fillsFar s1 y (anI 255 (xoI (wtS X K : Int) (-1)))) f = f () s2 := fun f => by rw [hal]; exact btP e2 f
    have gx : ta s2 66 x = some (dT X (hdA X K) y x) := by rw [ta66 (by omega) (by omega), h3 _ (by omega) (by omega)]
    have hd := dT_in (X := X) (A := hdA X K) (fr := y) x
    by_cases d1 : dT X (hdA X K) y x < 0
    · rw [if_pos d1]
      refine ⟨s2, ?_, CC⟩
      simp (disch := omega) only [↓reduceIte, Bool.false_eq_true, nrm_i, ltT, ltF, leT, leF, eqT, eqF, not_true_eq_false, not_false_eq_true, and_self, and_true, true_and, false_and, and_false, or_true, true_or, or_false, false_or, ↓btS, ↓bnS, ↓bdS, ↓jnS, ↓obS, n_W hX hW, n_R hW, n_H hX hW, n_U hW, n_L hW, n_B hW, n_S hW, n_M hX, n_Ms hX, n_P, ↓ti_t, ↓ti_f, ↓tman_t hX hs, ↓tman_f hX hs, ↓troom_t hX hs, ↓troom_f hX hs, ↓tmir_t hX hs, ↓tmir_f hX hs, ↓tpas_t hn hW, ↓tpas_f hn hW, hmi, ↓pv_W Q, ↓pv_R Q, ↓pv_B Q, ↓tb52, p_W Q, p_R Q, ↓tz_R hs, ↓tz_M hs, ↓tz_K hs, ↓btP e1, ↓tb_watched J, ↓e2', ↓obP gx]
    · rw [if_neg d1]
      by_cases d2 : z = 0
      · rw [if_pos d2]
        refine ⟨s2, ?_, CC⟩
        simp (disch := omega) only [↓reduceIte, Bool.false_eq_true, nrm_i, ltT, ltF, leT, leF, eqT, eqF, not_true_eq_false, not_false_eq_true, and_self, and_true, true_and, false_and, and_false, or_true, true_or, or_false, false_or, ↓btS, ↓bnS, ↓bdS, ↓jnS, ↓obS, n_W hX hW, n_R hW, n_H hX hW, n_U hW, n_L hW, n_B hW, n_S hW, n_M hX, n_Ms hX, n_P, ↓ti_t, ↓ti_f, ↓tman_t hX hs, ↓tman_f hX hs, ↓troom_t hX hs, ↓troom_f hX hs, ↓tmir_t hX hs, ↓tmir_f hX hs, ↓tpas_t hn hW, ↓tpas_f hn hW, hmi, ↓pv_W Q, ↓pv_R Q, ↓pv_B Q, ↓tb52, p_W Q, p_R Q, ↓tz_R hs, ↓tz_M hs, ↓tz_K hs, ↓btP e1, ↓tb_watched J, ↓e2', ↓obP gx, d2]
      · rw [if_neg d2]
        by_cases d3 : x = y
        · rw [if_pos d3]
          refine ⟨s2, ?_, CC⟩
          simp (disch := omega) only [↓reduceIte, Bool.false_eq_true, nrm_i, ltT, ltF, leT, leF, eqT, eqF, not_true_eq_false, not_false_eq_true, and_self, and_true, true_and, false_and, and_false, or_true, true_or, or_false, false_or, ↓btS, ↓bnS, ↓bdS, ↓jnS, ↓obS, n_W hX hW, n_R hW, n_H hX hW, n_U hW, n_L hW, n_B hW, n_S hW, n_M hX, n_Ms hX, n_P, ↓ti_t, ↓ti_f, ↓tman_t hX hs, ↓tman_f hX hs, ↓troom_t hX hs, ↓troom_f hX hs, ↓tmir_t hX hs, ↓tmir_f hX hs, ↓tpas_t hn hW, ↓tpas_f hn hW, hmi, ↓pv_W Q, ↓pv_R Q, ↓pv_B Q, ↓tb52, p_W Q, p_R Q, ↓tz_R hs, ↓tz_M hs, ↓tz_K hs, ↓btP e1, ↓tb_watched J, ↓e2', ↓obP gx, d2]
        · rw [if_neg d3]
          obtain ⟨j, j1, j2, j3, j4⟩ := hd_some hX (K := K) (x := x) (y := y) (by omega) d3
          have hwy := wys_le hX x
          rw [j1]
          have lp : f_X8_hidden_L83 FU s2 x 1 (fun s17 x1 x5 => bt_ (f_X8_through s17 x1 x5) fun v19 s18 => some (v19, s18)) = some (thr1 X x ((j : Int) + 1), s2) := by
            refine loop (S := Int) (fun fl q => f_X8_hidden_L83 fl s2 x q (fun s17 x1 x5 => bt_ (f_X8_through s17 x1 x5) fun v19 s18 => some (v19, s18))) (· = some (thr1 X x ((j : Int) + 1), s2)) (fun i q => q = (i : Int) + 1) j ?_ ?_ j 0 FU 1 (by omega) (by rw [FU_eq]; omega) rfl
            · rintro fl i q hi rfl
              have ha := adj_in hX (adj_thr (X := X) (r := x) (j := (i : Int) + 1) (by omega) (by omega))
              have et := t_through hX hs2 (r := x) (k := (i : Int) + 1) (by omega) (by omega) (by omega) (by omega)
              have gi : ta s2 66 (thr1 X x ((i : Int) + 1)) = some (dT X (hdA X K) y (thr1 X x ((i : Int) + 1))) := by rw [ta66 (by omega) (by omega), h3 _ (by omega) (by omega)]
              have hti := dT_in (X := X) (A := hdA X K) (fr := y) (thr1 X x ((i : Int) + 1))
              right
              refine ⟨((i + 1 : Nat) : Int) + 1, ?_, rfl⟩
              rw [f_X8_hidden_L83, btP et, obP gi, obP gx, nrm_i (by omega) (by omega), nrm_i (by omega) (by omega), if_neg (j4 i hi)]
              rfl
            · rintro fl q rfl
              have ha := adj_in hX (adj_thr (X := X) (r := x) (j := (j : Int) + 1) (by omega) (by omega))
              have et := t_through hX hs2 (r := x) (k := (j : Int) + 1) (by omega) (by omega) (by omega) (by omega)
              have gi : ta s2 66 (thr1 X x ((j : Int) + 1)) = some (dT X (hdA X K) y (thr1 X x ((j : Int) + 1))) := by rw [ta66 (by omega) (by omega), h3 _ (by omega) (by omega)]
              rw [f_X8_hidden_L83, btP et, obP gi, obP gx, nrm_i (by omega) (by omega), nrm_i (by omega) (by omega), if_pos j3, btP et]
          refine ⟨s2, ?_, CC⟩
          simp (disch := omega) only [↓reduceIte, Bool.false_eq_true, nrm_i, ltT, ltF, leT, leF, eqT, eqF, not_true_eq_false, not_false_eq_true, and_self, and_true, true_and, false_and, and_false, or_true, true_or, or_false, false_or, ↓btS, ↓bnS, ↓bdS, ↓jnS, ↓obS, n_W hX hW, n_R hW, n_H hX hW, n_U hW, n_L hW, n_B hW, n_S hW, n_M hX, n_Ms hX, n_P, ↓ti_t, ↓ti_f, ↓tman_t hX hs, ↓tman_f hX hs, ↓troom_t hX hs, ↓troom_f hX hs, ↓tmir_t hX hs, ↓tmir_f hX hs, ↓tpas_t hn hW, ↓tpas_f hn hW, hmi, ↓pv_W Q, ↓pv_R Q, ↓pv_B Q, ↓tb52, p_W Q, p_R Q, ↓tz_R hs, ↓tz_M hs, ↓tz_K hs, ↓btP e1, ↓tb_watched J, ↓e2', ↓obP gx, d2, ↓lp]
  · rw [if_neg G]
    refine ⟨s, ?_, chg.rf _ _ _⟩
    by_cases c1 : 0 ≤ x ∧ x < xR X
    · by_cases c2 : 0 ≤ y ∧ y < xR X
      · by_cases c3 : 0 ≤ z ∧ z ≤ 1
        · exact absurd ⟨c1, c2, c3⟩ G
        · simp (disch := omega) only [↓reduceIte, Bool.false_eq_true, nrm_i, ltT, ltF, leT, leF, eqT, eqF, not_true_eq_false, not_false_eq_true, and_self, and_true, true_and, false_and, and_false, or_true, true_or, or_false, false_or, ↓btS, ↓bnS, ↓bdS, ↓jnS, ↓obS, n_W hX hW, n_R hW, n_H hX hW, n_U hW, n_L hW, n_B hW, n_S hW, n_M hX, n_Ms hX, n_P, ↓ti_t, ↓ti_f, ↓tman_t hX hs, ↓tman_f hX hs, ↓troom_t hX hs, ↓troom_f hX hs, ↓tmir_t hX hs, ↓tmir_f hX hs, ↓tpas_t hn hW, ↓tpas_f hn hW, hmi, ↓pv_W Q, ↓pv_R Q, ↓pv_B Q, ↓tb52, p_W Q, p_R Q, ↓tz_R hs, ↓tz_M hs, ↓tz_K hs]
      · simp (disch := omega) only [↓reduceIte, Bool.false_eq_true, nrm_i, ltT, ltF, leT, leF, eqT, eqF, not_true_eq_false, not_false_eq_true, and_self, and_true, true_and, false_and, and_false, or_true, true_or, or_false, false_or, ↓btS, ↓bnS, ↓bdS, ↓jnS, ↓obS, n_W hX hW, n_R hW, n_H hX hW, n_U hW, n_L hW, n_B hW, n_S hW, n_M hX, n_Ms hX, n_P, ↓ti_t, ↓ti_f, ↓tman_t hX hs, ↓tman_f hX hs, ↓troom_t hX hs, ↓troom_f hX hs, ↓tmir_t hX hs, ↓tmir_f hX hs, ↓tpas_t hn hW, ↓tpas_f hn hW, hmi, ↓pv_W Q, ↓pv_R Q, ↓pv_B Q, ↓tb52, p_W Q, p_R Q, ↓tz_R hs, ↓tz_M hs, ↓tz_K hs]
    · simp (disch := omega) only [↓reduceIte, Bool.false_eq_true, nrm_i, ltT, ltF, leT, leF, eqT, eqF, not_true_eq_false, not_false_eq_true, and_self, and_true, true_and, false_and, and_false, or_true, true_or, or_false, false_or, ↓btS, ↓bnS, ↓bdS, ↓jnS, ↓obS, n_W hX hW, n_R hW, n_H hX hW, n_U hW, n_L hW, n_B hW, n_S hW, n_M hX, n_Ms hX, n_P, ↓ti_t, ↓ti_f, ↓tman_t hX hs, ↓tman_f hX hs, ↓troom_t hX hs, ↓troom_f hX hs, ↓tmir_t hX hs, ↓tmir_f hX hs, ↓tpas_t hn hW, ↓tpas_f hn hW, hmi, ↓pv_W Q, ↓pv_R Q, ↓pv_B Q, ↓tb52, p_W Q, p_R Q, ↓tz_R hs, ↓tz_M hs, ↓tz_K hs]
theorem t_view (Q : TQ s X K) (hsd : kSd K = xS X) {m x y z : Int} (wm : wd m) (wx : wd x) (wy : wd y) (wz : wd z) : ∃ s' : TW, f_X8_view s m x y z = some (q_view X K m x y z, s') ∧ chg qk qf s s' := by
  obtain ⟨hX, hs, hn, hW⟩ := Q
  have Q : TQ s X K := ⟨hX, hs, hn, hW⟩
  have hmi := Q.mi
  have a0 := hX.1
  have a1 := hX.2.2.1
  have a4 := hX.2.2.2.1
  have a3 := hs.1
  have a2 := hW.1
  unfold f_X8_view q_view
  by_cases G : (0 ≤ m ∧ m < xM X) ∧ (0 ≤ x ∧ x < xR X) ∧ (0 ≤ y ∧ y ≤ kMi K) ∧ (0 ≤ z ∧ z ≤ 1)
  · rw [if_pos G]
    obtain ⟨c0, c1, c2, c3⟩ := G
    have hw := (hW.2.1 m (kMi K) c0.1 c0.2 a2.1 (Int.le_refl _)).1
    obtain ⟨s1, e1, J, m1, C⟩ := t_fillsAll Q hsd
    obtain ⟨hWE, hE⟩ := kEnd_ok hX hW
    obtain ⟨s2, e2, h2, C2⟩ := t_fillsFar hX J.2.1 (w := 255) (by omega) hw
    have CC : chg qk qf s s2 := C.tr (C2.up (by decide) (by decide))
    have J2 : TI s2 X (kEnd X K) := J.chg C2 (by decide) (by decide) (by decide) (by decide)
    have m2 : s2.1 53 = kMi K := (C2.2 53 (by decide)).trans m1
    have hA : ∀ v : Int, 0 ≤ v → v < xR X → (255 : Nat).testBit v.toNat = true := fun v v0 v1 => by
      have : ∀ j : Nat, j < 8 → (255 : Nat).testBit j = true := by decide
      exact this _ (by omega)
    have h3 : ∀ v : Int, 0 ≤ v → v < 8 → s2.2 66 v = dT X (fun _ => true) (kW K m (kMi K)) v := fun v v0 v1 => (h2 v v0 v1).trans (dT_congr hX hw hA v)
    have e4 : ∀ {β : Type} (f : Int → Option β), (ta s1 56 (36 * s1.1 53 + m)).bind f = f (kW K m (kMi K)) := fun f => by
      rw [m1, tv_W J c0.1 c0.2 a2.1 (by omega)]
      unfold kEnd
      rw [(rn_old X _ K (Int.le_refl _) c0.1).1]
    refine ⟨s2, ?_, CC⟩
    have lp : f_X8_view_L67 FU s2 x y z (kMi K) (fun s25 => some (-2, s25)) = some ((match itE (f2d (vwP X K m x y) (xK X).toNat) 0 (tEn K) () with | .inl _ => -2 | .inr q => if z = 0 then kMi K + q.1 else (q.2 : Int)), s2) := by
      obtain ⟨e, -⟩ := loop0 (fun fl (_ : Unit) i => f_X8_view_L67 fl s2 x y z i (fun s25 => some (-2, s25))) (fun _ => some (-2, s2)) (fun q => some (if z = 0 then kMi K + q.1 else (q.2 : Int), s2)) (f2d (vwP X K m x y) (xK X).toNat) (fun _ _ => True) (tEn K) (kMi K) (fl := FU) (a0 := ()) (by rw [FU_eq]; unfold tEn; omega) trivial (fun fl i _ hi _ => by
          refine ⟨?_, fun _ _ => trivial⟩
          unfold tEn at hi
          rw [f_X8_view_L67, nrm_i (z := 299) (by decide) (by decide), nrm_i (z := kMi K + i) (by omega) (by omega), if_neg (by omega)]
          have e := loopF (fun f k => f_X8_view_L78 f s2 x y z (kMi K + i) k (fun s23 x2 x3 x4 x5 => f_X8_view_L67 fl s23 x2 x3 x4 (x5 + 1) (fun s25 => some (-2, s25)))) (f_X8_view_L67 fl s2 x y z (kMi K + i + 1) (fun s25 => some (-2, s25))) (fun k => some (if z = 0 then kMi K + i else (k : Int), s2)) (fun k => vwP X K m x y k i) (xK X).toNat 0 (fl := FU) (by rw [FU_eq]; omega) (fun f k hk => by
              have hh := (hWE.2.2.1 k (kMi K + i) (by omega) (by omega) (by omega) (by omega)).1
              have htd := dT_in (X := X) (A := fun _ => true) (fr := kW K m (kMi K)) (kH (kEnd X K) k (kMi K + i))
              have gf : ta s2 66 (kH (kEnd X K) k (kMi K + i)) = some (dT X (fun _ => true) (kW K m (kMi K)) (kH (kEnd X K) k (kMi K + i))) := by rw [ta66 (by omega) (by omega), h3 _ (by omega) (by omega)]
              have ev : vwP X K m x y k i = ((decide (shw (kEnd X K) k (kMi K + i) = y) && decide (kH (kEnd X K) k y = x)) && (decide (0 ≤ dT X (fun _ => true) (kW K m (kMi K)) (kH (kEnd X K) k (kMi K + i))) && decide (dT X (fun _ => true) (kW K m (kMi K)) (kH (kEnd X K) k (kMi K + i)) ≤ i))) := rfl
              rw [f_X8_view_L78, Int.zero_add, tz_K J2.2.1, nrm_i (z := xK X) (by omega) (by omega), nrm_i (z := (k : Int)) (by omega) (by omega), if_neg (by omega), tb_hungIn J2 (by omega) (by omega) (by omega) (by omega), obP gf, m2, show kMi K + (i : Int) - kMi K = i by omega, nrm_i (z := (i : Int)) (by omega) (by omega), nrm_i (z := dT X (fun _ => true) (kW K m (kMi K)) (kH (kEnd X K) k (kMi K + i))) (by omega) (by omega), tb_showsRoom J2 (by omega) (by omega) (by omega) (by omega) wx c2.1 (by omega), nrm_i (z := z) (by omega) (by omega), nrm_i (z := kMi K + i) (by omega) (by omega), ev]
              generalize dT X (fun _ => true) (kW K m (kMi K)) (kH (kEnd X K) k (kMi K + i)) = D at htd ⊢
              cases (decide (shw (kEnd X K) k (kMi K + i) = y) && decide (kH (kEnd X K) k y = x)) with
              | true =>
                rw [Bool.true_and, if_pos (show (true = true) from rfl), if_neg (show ¬ nrm 1 = 0 by decide)]
                by_cases d1 : D < 0
                · rw [if_pos d1, if_neg (by simp; omega)]
                · rw [if_neg d1]
                  by_cases d2 : (i : Int) < D
                  · rw [if_pos d2, if_neg (by simp; omega)]
                  · rw [if_neg d2]
                    have hb : (decide (0 ≤ D) && decide (D ≤ (i : Int))) = true := by simp; omega
                    rw [if_pos hb]
                    by_cases d4 : z = 0
                    · rw [if_neg (fun h => h d4), if_pos d4]
                    · rw [if_pos d4, if_neg d4]
              | false =>
                rw [Bool.false_and, if_neg (show ¬ (false = true) by decide), if_neg (show ¬ (false = true) by decide), if_pos (show nrm 0 = 0 by decide)]
                split
                · rfl
                · split <;> rfl)
            (fun f => by
              rw [f_X8_view_L78, Int.zero_add, tz_K J2.2.1, nrm_i (by omega) (by omega), nrm_i (by omega) (by omega), if_pos (by omega)])
          refine e.trans ?_
          unfold f2d
          cases fnd (fun k => vwP X K m x y k i) 0 (xK X).toNat with
          | some v => rfl
          | none => rfl)
        (fun fl _ _ => by
          have e : kMi K + (tEn K : Int) = 300 := by unfold tEn; omega
          rw [f_X8_view_L67, e, if_pos (by decide)])
      refine e.trans ?_
      cases itE (f2d (vwP X K m x y) (xK X).toNat) 0 (tEn K) () with
      | inl u => rfl
      | inr q => rfl
    have lp' : f_X8_view_L67 FU s2 x y z (s2.1 53) (fun s25 => some (-2, s25)) = some ((match itE (f2d (vwP X K m x y) (xK X).toNat) 0 (tEn K) () with | .inl _ => -2 | .inr q => if z = 0 then kMi K + q.1 else (q.2 : Int)), s2) := by rw [m2]; exact lp
    have e5 : ∀ {β : Type} (f : Unit → TW → Option β), bt_ (f_X8_fillsFar s1 (kW K m (kMi K)) 255) f = f () s2 := fun f => btP e2 f
    simp (disch := omega) only [↓reduceIte, Bool.false_eq_true, nrm_i, ltT, ltF, leT, leF, eqT, eqF, not_true_eq_false, not_false_eq_true, and_self, and_true, true_and, false_and, and_false, or_true, true_or, or_false, false_or, ↓btS, ↓bnS, ↓bdS, ↓jnS, ↓obS, n_W hX hW, n_R hW, n_H hX hW, n_U hW, n_L hW, n_B hW, n_S hW, n_M hX, n_Ms hX, n_P, ↓ti_t, ↓ti_f, ↓tman_t hX hs, ↓tman_f hX hs, ↓troom_t hX hs, ↓troom_f hX hs, ↓tmir_t hX hs, ↓tmir_f hX hs, ↓tpas_t hn hW, ↓tpas_f hn hW, hmi, ↓pv_W Q, ↓pv_R Q, ↓pv_B Q, ↓tb52, p_W Q, p_R Q, ↓tz_R hs, ↓tz_M hs, ↓tz_K hs, ↓btP e1, ↓e4, ↓e5, ↓lp']
    rfl
  · rw [if_neg G]
    refine ⟨s, ?_, chg.rf _ _ _⟩
    by_cases c1 : 0 ≤ m ∧ m < xM X
    · by_cases c2 : 0 ≤ x ∧ x < xR X
      · by_cases c3 : 0 ≤ y ∧ y ≤ kMi K
        · by_cases c4 : 0 ≤ z ∧ z ≤ 1
          · exact absurd ⟨c1, c2, c3, c4⟩ G
          · simp (disch := omega) only [↓reduceIte, Bool.false_eq_true, nrm_i, ltT, ltF, leT, leF, eqT, eqF, not_true_eq_false, not_false_eq_true, and_self, and_true, true_and, false_and, and_false, or_true, true_or, or_false, false_or, ↓btS, ↓bnS, ↓bdS, ↓jnS, ↓obS, n_W hX hW, n_R hW, n_H hX hW, n_U hW, n_L hW, n_B hW, n_S hW, n_M hX, n_Ms hX, n_P, ↓ti_t, ↓ti_f, ↓tman_t hX hs, ↓tman_f hX hs, ↓troom_t hX hs, ↓troom_f hX hs, ↓tmir_t hX hs, ↓tmir_f hX hs, ↓tpas_t hn hW, ↓tpas_f hn hW, hmi, ↓pv_W Q, ↓pv_R Q, ↓pv_B Q, ↓tb52, p_W Q, p_R Q, ↓tz_R hs, ↓tz_M hs, ↓tz_K hs]
        · simp (disch := omega) only [↓reduceIte, Bool.false_eq_true, nrm_i, ltT, ltF, leT, leF, eqT, eqF, not_true_eq_false, not_false_eq_true, and_self, and_true, true_and, false_and, and_false, or_true, true_or, or_false, false_or, ↓btS, ↓bnS, ↓bdS, ↓jnS, ↓obS, n_W hX hW, n_R hW, n_H hX hW, n_U hW, n_L hW, n_B hW, n_S hW, n_M hX, n_Ms hX, n_P, ↓ti_t, ↓ti_f, ↓tman_t hX hs, ↓tman_f hX hs, ↓troom_t hX hs, ↓troom_f hX hs, ↓tmir_t hX hs, ↓tmir_f hX hs, ↓tpas_t hn hW, ↓tpas_f hn hW, hmi, ↓pv_W Q, ↓pv_R Q, ↓pv_B Q, ↓tb52, p_W Q, p_R Q, ↓tz_R hs, ↓tz_M hs, ↓tz_K hs]
      · simp (disch := omega) only [↓reduceIte, Bool.false_eq_true, nrm_i, ltT, ltF, leT, leF, eqT, eqF, not_true_eq_false, not_false_eq_true, and_self, and_true, true_and, false_and, and_false, or_true, true_or, or_false, false_or, ↓btS, ↓bnS, ↓bdS, ↓jnS, ↓obS, n_W hX hW, n_R hW, n_H hX hW, n_U hW, n_L hW, n_B hW, n_S hW, n_M hX, n_Ms hX, n_P, ↓ti_t, ↓ti_f, ↓tman_t hX hs, ↓tman_f hX hs, ↓troom_t hX hs, ↓troom_f hX hs, ↓tmir_t hX hs, ↓tmir_f hX hs, ↓tpas_t hn hW, ↓tpas_f hn hW, hmi, ↓pv_W Q, ↓pv_R Q, ↓pv_B Q, ↓tb52, p_W Q, p_R Q, ↓tz_R hs, ↓tz_M hs, ↓tz_K hs]
    · simp (disch := omega) only [↓reduceIte, Bool.false_eq_true, nrm_i, ltT, ltF, leT, leF, eqT, eqF, not_true_eq_false, not_false_eq_true, and_self, and_true, true_and, false_and, and_false, or_true, true_or, or_false, false_or, ↓btS, ↓bnS, ↓bdS, ↓jnS, ↓obS, n_W hX hW, n_R hW, n_H hX hW, n_U hW, n_L hW, n_B hW, n_S hW, n_M hX, n_Ms hX, n_P, ↓ti_t, ↓ti_f, ↓tman_t hX hs, ↓tman_f hX hs, ↓troom_t hX hs, ↓troom_f hX hs, ↓tmir_t hX hs, ↓tmir_f hX hs, ↓tpas_t hn hW, ↓tpas_f hn hW, hmi, ↓pv_W Q, ↓pv_R Q, ↓pv_B Q, ↓tb52, p_W Q, p_R Q, ↓tz_R hs, ↓tz_M hs, ↓tz_K hs]
end

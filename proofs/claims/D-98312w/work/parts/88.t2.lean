set_option maxRecDepth 100000
set_option maxHeartbeats 1000000
/-! ===== PURE: the twin keeps ===== -/
section
variable {s s' : TW} {X : Txt} {K K' : Crt} {M : Mst} {β : Type} {ks fs : List Int}
theorem Ent.same {a a' : Int → Int} {b b' : Int} {V : Crt} (h : Ent a b X V) (hX : WfX X) (e : ∀ i : Int, 0 ≤ i → i < 53 → a' (b' + i) = a (b + i)) : Ent a' b' X V := by
  have a1 := hX.2.2.1
  have a4 := hX.2.2.2.1
  have e' : ∀ p i : Int, 0 ≤ p + i → p + i < 53 → a' (b' + p + i) = a (b + p + i) := fun p i h0 h1 => by rw [Int.add_assoc, Int.add_assoc]; exact e _ h0 h1
  refine ⟨?_, fun m m0 m1 => ?_, fun k m0 m1 => ?_⟩
  · have := e 0 (by decide) (by decide)
    rw [Int.add_zero, Int.add_zero] at this
    rw [this]; exact h.1
  · rw [e' _ _ (by omega) (by omega), e' _ _ (by omega) (by omega)]
    exact h.2.1 m m0 m1
  · rw [e' _ _ (by omega) (by omega), e' _ _ (by omega) (by omega), e' _ _ (by omega) (by omega), e' _ _ (by omega) (by omega), e' _ _ (by omega) (by omega)]
    exact h.2.2 k m0 m1
/-- a block is written -/
def blk (s : TW) (B mi : Int) : TW := fil (fil (fil (tst s 62 B mi) 62 (B + 1) (B + 1 + ((36 : Nat) : Int)) (fun j => s.2 52 (36 * mi + (j - B - 1)))) 62 (B + 37) (B + 37 + ((8 : Nat) : Int)) (fun j => s.2 54 (j - B - 37))) 62 (B + 45) (B + 45 + ((8 : Nat) : Int)) (fun j => s.2 55 (j - B - 45))
theorem blk_c (s : TW) (B mi : Int) : chg [62] [] s (blk s B mi) := ((((chg.rf _ _ s).ts (by decide) _ _).fil (by decide) _ _ _).fil (by decide) _ _ _).fil (by decide) _ _ _
theorem blk_o (s : TW) (B mi : Int) {j : Int} (h : j < B) : (blk s B mi).2 62 j = s.2 62 j := by
  unfold blk
  rw [fil_out _ (by omega), fil_out _ (by omega), fil_out _ (by omega), tst_eq, fuN _ _ (by omega)]
theorem blk_e (Q : TQ s X K) (B : Int) : Ent ((blk s B (kMi K)).2 62) B X K := by
  obtain ⟨hX, -, hn, hW⟩ := Q
  have a1 := hX.2.2.1
  have a4 := hX.2.2.2.1
  have a2 := hW.1
  have e0 : (blk s B (kMi K)).2 62 B = kMi K := by
    unfold blk
    rw [fil_out _ (by omega), fil_out _ (by omega), fil_out _ (by omega), tst_eq, fuE]
  have e1 : ∀ i : Int, 0 ≤ i → i < 36 → (blk s B (kMi K)).2 62 (B + 1 + i) = s.2 52 (36 * kMi K + i) := fun i i0 i1 => by
    unfold blk
    rw [fil_out _ (by omega), fil_out _ (by omega), fil_in _ (by omega) (by omega), show B + 1 + i - B - 1 = i by omega]
  have e2 : ∀ i : Int, 0 ≤ i → i < 8 → (blk s B (kMi K)).2 62 (B + 37 + i) = s.2 54 i := fun i i0 i1 => by
    unfold blk
    rw [fil_out _ (by omega), fil_in _ (by omega) (by omega), show B + 37 + i - B - 37 = i by omega]
  have e3 : ∀ i : Int, 0 ≤ i → i < 8 → (blk s B (kMi K)).2 62 (B + 45 + i) = s.2 55 i := fun i i0 i1 => by
    unfold blk
    rw [fil_in _ (by omega) (by omega), show B + 45 + i - B - 45 = i by omega]
  refine ⟨e0, fun m m0 m1 => ?_, fun k m0 m1 => ?_⟩
  · rw [e1 m m0 (by omega), show B + 7 + m = B + 1 + (6 + m) by omega, e1 (6 + m) (by omega) (by omega), show 36 * kMi K + (6 + m) = 36 * kMi K + 6 + m by omega]
    exact hn.2.1 m (kMi K) m0 m1 a2.1 (Int.le_refl _)
  · rw [show B + 13 + k = B + 1 + (12 + k) by omega, e1 (12 + k) (by omega) (by omega), show B + 21 + k = B + 1 + (20 + k) by omega, e1 (20 + k) (by omega) (by omega), show B + 29 + k = B + 1 + (28 + k) by omega, e1 (28 + k) (by omega) (by omega), e2 k m0 (by omega), e3 k m0 (by omega), show 36 * kMi K + (12 + k) = 36 * kMi K + 12 + k by omega, show 36 * kMi K + (20 + k) = 36 * kMi K + 20 + k by omega, show 36 * kMi K + (28 + k) = 36 * kMi K + 28 + k by omega]
    have h := hn.2.2.1 k (kMi K) m0 m1 a2.1 (Int.le_refl _)
    exact ⟨⟨h.1, h.2.1, h.2.2 (Int.le_refl _)⟩, hn.2.2.2 k m0 m1⟩
theorem blk_w (Q : TQ s X K) {B : Int} (h0 : 0 ≤ B) (h1 : B ≤ 1007) (f : TW → Int → Option (Unit × TW)) (g : TW → Option (Unit × TW)) (hf : ∀ a, f a B = f_X8_keeps_L107 FU a B 0 g) : ((ts s 62 B (kMi K)).bind fun s2 => f_X8_keeps_L69 FU s2 B 0 f) = g (blk s B (kMi K)) := by
  obtain ⟨hX, -, hn, hW⟩ := Q
  have hmi : s.1 53 = kMi K := hn.1
  have a2 := hW.1
  rw [ts62 (by omega) (by omega), obS]
  refine (loopC (fun n a x => f_X8_keeps_L69 n a B x f) (fun a => f a B) (tst s 62 B (kMi K)) 62 (B + 1) 0 (fun j => s.2 52 (36 * kMi K + (j - B - 1))) 36 (by decide) (fun n i hi => ?_) (fun n => ?_)).trans ?_
  · rw [f_X8_keeps_L69, fil_f, tst_f, hmi, nrm_i (z := 36) (by decide) (by decide), nrm_i (z := 0 + (i : Int)) (by omega) (by omega), if_neg (by omega), tb52 (by omega) (by omega), ts62 (by omega) (by omega), obS, fil_ne _ _ _ _ (by decide), tst_ne _ _ _ (by decide), show B + 1 + (i : Int) - B - 1 = 0 + i by omega, show B + 1 + (0 + (i : Int)) = B + 1 + i by omega]
  · rw [f_X8_keeps_L69, if_pos (by decide)]
  · rw [hf]
    refine (loopC2 (fun n a x => f_X8_keeps_L107 n a B x g) g _ 62 62 (B + 37) (B + 45) 0 (fun j => s.2 54 (j - B - 37)) (fun j => s.2 55 (j - B - 45)) 8 (by decide) (Or.inr (by omega)) (fun n i hi => ?_) (fun n => ?_)).trans rfl
    · rw [f_X8_keeps_L107, nrm_i (z := 8) (by decide) (by decide), nrm_i (z := 0 + (i : Int)) (by omega) (by omega), if_neg (by omega), tb54 (by omega) (by omega), ts62 (by omega) (by omega), obS, tb55 (by omega) (by omega), ts62 (by omega) (by omega), obS, tst_ne _ _ _ (by decide), fil_ne _ _ _ _ (by decide), fil_ne _ _ _ _ (by decide), fil_ne _ _ _ _ (by decide), tst_ne _ _ _ (by decide), fil_ne _ _ _ _ (by decide), fil_ne _ _ _ _ (by decide), fil_ne _ _ _ _ (by decide), tst_ne _ _ _ (by decide), show B + 37 + (i : Int) - B - 37 = 0 + i by omega, show B + 45 + (i : Int) - B - 45 = 0 + i by omega, show B + 37 + (0 + (i : Int)) = B + 37 + i by omega, show B + 45 + (0 + (i : Int)) = B + 45 + i by omega]
    · rw [f_X8_keeps_L107, if_pos (by decide)]
/-- with room -/
theorem keeps_j (Q : TQ s X K) {l : List Crt} (U : UnT s X K l) (hl : l.length ≤ 19) (hr : RepW s X K') (hW' : WfK X K') (hb : blw X K K') : ∃ s' : TW, ((ts s 62 (53 * (s.1 61)) (s.1 53)).bind fun s2 => f_X8_keeps_L69 FU s2 (53 * (s.1 61)) 0 (fun s6 x1 => f_X8_keeps_L107 FU s6 x1 0 (fun s12 => bd (tp s12 61 (nrm ((s12.1 61) + 1))) fun s13 => bt_ (f_X8_keepsRows s13 (s13.1 53)) fun _ s14 => some ((), s14)))) = some ((), s') ∧ TQ s' X K' ∧ UnT s' X K' (K :: l) ∧ chg [52, 54, 55, 62] [53, 61] s s' := by
  have hX := Q.1
  have hmi : s.1 53 = kMi K := Q.2.2.1.1
  have h61 := U.1
  have c1 := blk_c s (53 * (l.length : Int)) (kMi K)
  have c2 : chg [62] [61] s (tp (blk s (53 * (l.length : Int)) (kMi K)) 61 ((l.length : Int) + 1)) := (c1.up (fs' := [61]) (by decide) (by decide)).tp (by decide) _
  have Q2 := Q.fr c2 (by decide) (by decide) (by decide) (by decide) (by decide) (by decide)
  have hr2 : RepW (tp (blk s (53 * (l.length : Int)) (kMi K)) 61 ((l.length : Int) + 1)) X K' := by
    unfold RepW RepQ
    rw [c2.1 56 (by decide), c2.1 58 (by decide), c2.1 59 (by decide), c2.2 57 (by decide)]
    exact hr
  obtain ⟨s3, e3, n3, c3⟩ := t_keepsRows2 hX Q2.2.2.1 hr2 Q.2.2.2 hW' hb
  have c4 : chg [52, 54, 55, 62] [53, 61] s s3 := (c2.up (by decide) (by decide)).tr (c3.up (by decide) (by decide))
  have e62 : s3.2 62 = (blk s (53 * (l.length : Int)) (kMi K)).2 62 := c3.1 62 (by decide)
  refine ⟨s3, ?_, ⟨hX, Q.2.1.same (c4.text (by decide) (by decide)), n3, hW'⟩, ⟨?_, fun j hj => ?_⟩, c4⟩
  · rw [h61, hmi]
    rw [blk_w Q (B := 53 * (l.length : Int)) (by omega) (by omega) _ (fun s12 => bd (tp s12 61 (nrm ((s12.1 61) + 1))) fun s13 => bt_ (f_X8_keepsRows s13 (s13.1 53)) fun _ s14 => some ((), s14)) (fun a => rfl)]
    rw [show (blk s (53 * (l.length : Int)) (kMi K)).1 61 = (l.length : Int) from (c1.2 61 (by decide)).trans h61, nrm_i (by omega) (by omega), bdS, show (tp (blk s (53 * (l.length : Int)) (kMi K)) 61 ((l.length : Int) + 1)).1 53 = kMi K from (c2.2 53 (by decide)).trans hmi, e3, btS]
  · rw [c3.2 61 (by decide), tp_eq, List.length_cons]
    omega
  · rw [e62]
    cases j with
    | zero =>
      rw [show ((K :: l).length : Int) - 1 - ((0 : Nat) : Int) = l.length by rw [List.length_cons]; omega]
      exact blk_e Q _
    | succ j =>
      have hj : j < l.length := Nat.lt_of_succ_lt_succ hj
      show Ent _ _ X (l.getD j K')
      rw [getD_any hj K, show ((K :: l).length : Int) - 1 - ((j + 1 : Nat) : Int) = l.length - 1 - j by rw [List.length_cons]; omega]
      exact (U.2 j hj).same hX fun i i0 i1 => blk_o s _ _ (by omega)
theorem t_keeps (Q : TQ s X K) {l : List Crt} (U : UnT s X K l) (hl : l.length ≤ 20) (hr : RepW s X K') (hW' : WfK X K') (hb : blw X K K') : ∃ s' : TW, f_X8_keeps s = some ((), s') ∧ TQ s' X K' ∧ UnT s' X K' ((K :: l).take 20) ∧ chg [52, 54, 55, 62] [53, 61] s s' := by
  have hX := Q.1
  have h61 := U.1
  unfold f_X8_keeps
  rw [jnS, h61, nrm_i (z := (l.length : Int)) (by omega) (by omega), nrm_i (z := 20) (by decide) (by decide)]
  by_cases c : (l.length : Int) = 20
  · have hl20 : l.length = 20 := by omega
    have cS : chg [62] [61] s (tp (fil s 62 0 (0 + ((1007 : Nat) : Int)) (fun j => s.2 62 (j + 53))) 61 19) := ((chg.rf _ _ s).fil (by decide) _ _ _).tp (by decide) _
    have Q2 := Q.fr cS (by decide) (by decide) (by decide) (by decide) (by decide) (by decide)
    have hr2 : RepW (tp (fil s 62 0 (0 + ((1007 : Nat) : Int)) (fun j => s.2 62 (j + 53))) 61 19) X K' := by
      unfold RepW RepQ
      rw [cS.1 56 (by decide), cS.1 58 (by decide), cS.1 59 (by decide), cS.2 57 (by decide)]
      exact hr
    have hlt : (l.take 19).length = 19 := by rw [List.length_take]; omega
    have U2 : UnT (tp (fil s 62 0 (0 + ((1007 : Nat) : Int)) (fun j => s.2 62 (j + 53))) 61 19) X K (l.take 19) := by
      refine ⟨by rw [tp_eq, hlt]; rfl, fun j hj => ?_⟩
      rw [hlt] at hj ⊢
      have e : (l.take 19).getD j K = l.getD j K := by
        rw [List.getD_eq_getElem?_getD, List.getD_eq_getElem?_getD, List.getElem?_take_of_lt hj]
      rw [e]
      refine (U.2 j (by omega)).same hX fun i i0 i1 => ?_
      refine (fil_in s (k := 62) (lo := 0) (hi := 0 + ((1007 : Nat) : Int)) (g := fun j => s.2 62 (j + 53)) (j := 53 * (((19 : Nat) : Int) - 1 - j) + i) (by omega) (by omega)).trans ?_
      have e5 : 53 * (((19 : Nat) : Int) - 1 - j) + i + 53 = 53 * (((20 : Nat) : Int) - 1 - j) + i := by omega
      rw [hl20, e5]
    obtain ⟨s3, e3, q3, u3, c3⟩ := keeps_j Q2 U2 (by omega) hr2 hW' hb
    refine ⟨s3, ?_, q3, ?_, (cS.up (by decide) (by decide)).tr c3⟩
    · rw [if_neg (fun h => h c)]
      have kl : ∀ k : TW → Option (Unit × TW), f_X8_keeps_L11 FU s 0 k = k (fil s 62 0 (0 + ((1007 : Nat) : Int)) (fun j => s.2 62 (j + 53))) := fun k => by
        refine loopC (fun n a x => f_X8_keeps_L11 n a x k) k s 62 0 0 (fun j => s.2 62 (j + 53)) 1007 (by decide) (fun n i hi => ?_) (fun n => ?_)
        · rw [f_X8_keeps_L11, nrm_i (z := 1007) (by decide) (by decide), nrm_i (z := 0 + (i : Int)) (by omega) (by omega), if_neg (by omega), tb62 (by omega) (by omega), ts62 (by omega) (by omega), obS, fil_out s (by omega)]
        · rw [f_X8_keeps_L11, if_pos (by decide)]
      rw [kl, fil_f, h61, hl20, show nrm (((20 : Nat) : Int) - 1) = 19 by decide, bdS]
      exact e3
    · have : (K :: l).take 20 = K :: l.take 19 := rfl
      rw [this]; exact u3
  · obtain ⟨s3, e3, q3, u3, c3⟩ := keeps_j Q U (by omega) hr hW' hb
    refine ⟨s3, ?_, q3, ?_, c3⟩
    · rw [if_pos c]; exact e3
    · rw [List.take_of_length_le (by rw [List.length_cons]; omega)]; exact u3
end

set_option maxRecDepth 100000
set_option maxHeartbeats 1000000
theorem dv300 : ∀ j : Nat, j < 2400 → dvI (j : Int) 300 = ((j / 300 : Nat) : Int) ∧ rmI (j : Int) 300 = ((j % 300 : Nat) : Int) := by decide +kernel
section
variable {s s' τ : TW} {X : Txt} {K : Crt} {β : Type}
/-- yes and no, by 300 * mirror + minute -/
def LkB (a : Int) (P : Int → Int → Prop) (τ : TW) : Prop := ∀ k v : Int, 0 ≤ k → k < 8 → 0 ≤ v → v < 300 → (τ.2 a (300 * k + v) = 0 ∨ τ.2 a (300 * k + v) = 1) ∧ (τ.2 a (300 * k + v) = 1 ↔ P k v)
theorem LkB.cg {a : Int} {P Q : Int → Int → Prop} (h : LkB a P τ) (e : ∀ k v : Int, P k v ↔ Q k v) : LkB a Q τ := fun k v h0 h1 h2 h3 => ⟨(h k v h0 h1 h2 h3).1, (h k v h0 h1 h2 h3).2.trans (e k v)⟩
theorem LkB.wr {a : Int} {P : Int → Int → Prop} (h : LkB a P τ) {j w : Int} (j0 : 0 ≤ j) (j1 : j < 8) (w0 : 0 ≤ w) (w1 : w < 300) : LkB a (fun k v => P k v ∨ (k = j ∧ v = w)) (tst τ a (300 * j + w) 1) := by
  intro k v k0 k1 v0 v1
  have h1 := h k v k0 k1 v0 v1
  rw [tst_eq]
  by_cases e : k = j ∧ v = w
  · rw [e.1, e.2, fuE]
    exact ⟨Or.inr rfl, ⟨fun _ => Or.inr ⟨rfl, rfl⟩, fun _ => rfl⟩⟩
  · rw [fuN _ _ (by omega)]
    exact ⟨h1.1, h1.2.trans ⟨fun h => Or.inl h, fun h => h.elim id (fun h => absurd h e)⟩⟩
theorem Lp_in (hW : WfK X K) {m : Int} {n : Nat} {k v : Int} (h : Lp X K m n k v) : (0 ≤ k ∧ k < xK X) ∧ 0 ≤ v ∧ v ≤ kMi K := by
  obtain ⟨h0, h1, t, h2, h3, h4⟩ := h
  have := shw_le hW h0.1 h0.2 (t := t) (by omega) h2
  exact ⟨h0, h1, by omega⟩
/-- the mirrors that are seen in one -/
theorem t_dp142 (J : TI s X K) (hz : s.1 18 = s.1 18) {P : Int → Int → Prop} {n k v : Int} {j : Nat} (hn : 0 ≤ n ∧ n ≤ 10) (hj : j < 2400) (ek : k = ((j / 300 : Nat) : Int)) (ev : v = ((j % 300 : Nat) : Int)) (hk : k < xK X) (hv : v ≤ kMi K) {z : Int} {w0 : Int × Int} (hw : 0 ≤ w0.1 ∧ w0.1 ≤ 300) (hP : LkB 64 P s) (kk : TW → Int → Int → Int → Int → Int → Option (Int × TW)) :
    ∃ (s' : TW) (a : Int × Int), f_X8_deepest_L142 FU s z w0.1 w0.2 n (j : Int) 0 kk = kk s' z a.1 a.2 n (j : Int) ∧ LkB 64 (fun q w => P q w ∨ ((0 ≤ q ∧ q < xK X) ∧ 0 ≤ w ∧ sn K k v q = w)) s' ∧ (0 ≤ a.1 ∧ a.1 ≤ 300) ∧ UPd n (fun w => ∃ q : Int, (0 ≤ q ∧ q < xK X) ∧ 0 ≤ w ∧ sn K k v q = w) w0 a ∧ chg [64] [] s s' := by
  have hX := J.1
  have hW := J.2.2.2
  have a0 := hX.1
  have a1 := hX.2.2.1
  have a4 := hX.2.2.2.1
  have a2 := hW.1
  have b3 := J.2.1.1
  have jmi := J.mi
  have hdr := dv300 j hj
  refine loop (S := TW × (Int × Int) × Int) (fun fl q => f_X8_deepest_L142 fl q.1 z q.2.1.1 q.2.1.2 n (j : Int) q.2.2 kk) (fun o => ∃ (s' : TW) (a : Int × Int), o = kk s' z a.1 a.2 n (j : Int) ∧ LkB 64 (fun q w => P q w ∨ ((0 ≤ q ∧ q < xK X) ∧ 0 ≤ w ∧ sn K k v q = w)) s' ∧ (0 ≤ a.1 ∧ a.1 ≤ 300) ∧ UPd n (fun w => ∃ q : Int, (0 ≤ q ∧ q < xK X) ∧ 0 ≤ w ∧ sn K k v q = w) w0 a ∧ chg [64] [] s s')
    (fun i q => q.2.2 = (i : Int) ∧ LkB 64 (fun q w => P q w ∨ ((0 ≤ q ∧ q < i) ∧ 0 ≤ w ∧ sn K k v q = w)) q.1 ∧ (0 ≤ q.2.1.1 ∧ q.2.1.1 ≤ 300) ∧ UPd n (fun w => ∃ q : Int, (0 ≤ q ∧ q < i) ∧ 0 ≤ w ∧ sn K k v q = w) w0 q.2.1 ∧ chg [64] [] s q.1) (xK X).toNat ?_ ?_ (xK X).toNat 0 FU (s, w0, 0) (by omega) (by rw [FU_eq]; omega) ⟨rfl, hP.cg (fun q w => ⟨fun h => Or.inl h, fun h => h.elim id (fun h => by omega)⟩), hw, (UPd.rf _ _).cg (fun w => ⟨fun h => h.elim, fun ⟨q, h, _⟩ => by omega⟩), chg.rf _ _ _⟩
  · rintro fl i ⟨τ, a, q⟩ hi ⟨rfl, hl, hb, hu, hc⟩
    dsimp only at hl hb hu hc ⊢
    have J2 : TI τ X K := J.chg hc (by decide) (by decide) (by decide) (by decide)
    have hs := sn_in hW (k := k) (v := v) (j := i) (by omega) (by omega) hv
    have ns := n_sn hW (k := k) (v := v) (j := i) (by omega) (by omega) hv
    have es : ∀ {β : Type} (f : Int → TW → Option β), bt_ (f_X8_seenIn τ (dvI (j : Int) 300) (rmI (j : Int) 300) i) f = f (sn K k v i) τ := fun f => by
      rw [hdr.1, hdr.2, ← ek, ← ev]
      exact tb_seenIn J2 (by omega) hk (by omega) hv (by omega) (by omega) f
    right
    rw [f_X8_deepest_L142]
    by_cases d : sn K k v i < 0
    · refine ⟨(τ, a, ((i + 1 : Nat) : Int)), ?_, rfl, hl.cg (fun q w => ⟨fun h => h.elim Or.inl (fun h => Or.inr ⟨by omega, h.2⟩), fun h => h.elim Or.inl (fun h => Or.inr ⟨?_, h.2⟩)⟩), hb, hu.cg (fun w => ⟨fun ⟨q, h1, h2⟩ => ⟨q, by omega, h2⟩, fun ⟨q, h1, h2⟩ => ⟨q, ?_, h2⟩⟩), hc⟩
      · simp (disch := omega) only [↓reduceIte, Bool.false_eq_true, nrm_i, ltT, ltF, leT, leF, eqT, eqF, not_true_eq_false, not_false_eq_true, and_self, and_true, true_and, false_and, and_false, or_true, true_or, or_false, false_or, ↓btS, ↓bnS, ↓bdS, ↓jnS, ↓obS, ↓tz_K J2.2.1, ↓es, ns]; rfl
      · by_cases e : q = i
        · have := h.2.2; rw [e] at this; omega
        · omega
      · by_cases e : q = i
        · have := h2.2; rw [e] at this; omega
        · omega
    · have hs2 : 0 ≤ sn K k v i ∧ sn K k v i ≤ kMi K := by omega
      refine ⟨(tst τ 64 (300 * i + sn K k v i) 1, if sn K k v i < a.1 then (sn K k v i, n) else a, ((i + 1 : Nat) : Int)), ?_, rfl, (hl.wr (j := i) (w := sn K k v i) (by omega) (by omega) hs2.1 (by omega)).cg (fun q w => ⟨fun h => ?_, fun h => ?_⟩), ?_, (hu.st (sn K k v i)).cg (fun w => ⟨fun h => ?_, fun ⟨q, h1, h2⟩ => ?_⟩), hc.ts (by decide) _ _⟩
      · have hw64 : ts τ 64 (300 * (i : Int) + sn K k v i) 1 = some (tst τ 64 (300 * (i : Int) + sn K k v i) 1) := ts64 (by omega) (by omega)
        by_cases d3 : sn K k v i < a.1
        · simp (disch := omega) only [↓reduceIte, Bool.false_eq_true, nrm_i, ltT, ltF, leT, leF, eqT, eqF, not_true_eq_false, not_false_eq_true, and_self, and_true, true_and, false_and, and_false, or_true, true_or, or_false, false_or, ↓btS, ↓bnS, ↓bdS, ↓jnS, ↓obS, ↓tz_K J2.2.1, ↓es, ns, b1_1, ↓obP hw64]; rfl
        · simp (disch := omega) only [↓reduceIte, Bool.false_eq_true, nrm_i, ltT, ltF, leT, leF, eqT, eqF, not_true_eq_false, not_false_eq_true, and_self, and_true, true_and, false_and, and_false, or_true, true_or, or_false, false_or, ↓btS, ↓bnS, ↓bdS, ↓jnS, ↓obS, ↓tz_K J2.2.1, ↓es, ns, b1_1, ↓obP hw64]; rfl
      · rcases h with (h | h) | h
        · exact Or.inl h
        · exact Or.inr ⟨by omega, h.2⟩
        · exact Or.inr ⟨by omega, by omega, by rw [h.1, h.2]⟩
      · rcases h with h | h
        · exact Or.inl (Or.inl h)
        · by_cases e : q = i
          · exact Or.inr ⟨e, by rw [← h.2.2, e]⟩
          · exact Or.inl (Or.inr ⟨by omega, h.2⟩)
      · dsimp only
        split
        · dsimp only; omega
        · exact hb
      · rcases h with ⟨q, h1, h2⟩ | h
        · exact ⟨q, by omega, h2⟩
        · exact ⟨i, by omega, by omega, h.symm⟩
      · by_cases e : q = i
        · exact Or.inr (by rw [← h2.2, e])
        · exact Or.inl ⟨q, by omega, h2⟩
  · rintro fl ⟨τ, a, q⟩ ⟨rfl, hl, hb, hu, hc⟩
    dsimp only at hl hb hu hc ⊢
    have J2 : TI τ X K := J.chg hc (by decide) (by decide) (by decide) (by decide)
    refine ⟨τ, a, ?_, hl.cg (fun q w => ⟨fun h => h.elim Or.inl (fun h => Or.inr ⟨by omega, h.2⟩), fun h => h.elim Or.inl (fun h => Or.inr ⟨by omega, h.2⟩)⟩), hb, hu.cg (fun w => ⟨fun ⟨q, h1, h2⟩ => ⟨q, by omega, h2⟩, fun ⟨q, h1, h2⟩ => ⟨q, by omega, h2⟩⟩), hc⟩
    rw [f_X8_deepest_L142, tz_K J2.2.1, nrm_i (by omega) (by omega), nrm_i (by omega) (by omega), if_pos (by omega)]
/-- noughts -/
theorem t_dp93 (x2 x3 x4 x5 : Int) (kk : TW → Int → Int → Int → Int → Option (Int × TW)) : ∃ s' : TW, f_X8_deepest_L93 FU s x2 x3 x4 x5 0 kk = kk s' x2 x3 x4 x5 ∧ LkB 64 (fun _ _ => False) s' ∧ chg [64] [] s s' := by
  refine loop (S := TW × Int) (fun fl q => f_X8_deepest_L93 fl q.1 x2 x3 x4 x5 q.2 kk) (fun o => ∃ s' : TW, o = kk s' x2 x3 x4 x5 ∧ LkB 64 (fun _ _ => False) s' ∧ chg [64] [] s s')
    (fun i q => q.2 = (i : Int) ∧ (∀ j : Int, 0 ≤ j → j < i → q.1.2 64 j = 0) ∧ chg [64] [] s q.1) 2400 ?_ ?_ 2400 0 FU (s, 0) rfl (by decide) ⟨rfl, fun _ _ h => by omega, chg.rf _ _ _⟩
  · rintro fl i ⟨τ, q⟩ hi ⟨rfl, hl, hc⟩
    dsimp only at hl hc ⊢
    right
    refine ⟨(tst τ 64 i 0, ((i + 1 : Nat) : Int)), ?_, rfl, ?_, hc.ts (by decide) _ _⟩
    · rw [f_X8_deepest_L93, nrm_i (z := 2400) (by decide) (by decide), nrm_i (z := (i : Int)) (by omega) (by omega), if_neg (by omega), sb64 (by omega) (by omega), b1_0]
      rfl
    · intro j j0 j1
      dsimp only
      rw [tst_eq]
      by_cases e : j = i
      · rw [e, fuE]
      · rw [fuN _ _ e]; exact hl j j0 (by omega)
  · rintro fl ⟨τ, q⟩ ⟨rfl, hl, hc⟩
    dsimp only at hl hc ⊢
    refine ⟨τ, ?_, fun k v k0 k1 v0 v1 => ?_, hc⟩
    · rw [f_X8_deepest_L93, if_pos (by decide)]
    · rw [hl _ (by omega) (by omega)]
      exact ⟨Or.inl rfl, ⟨fun h => absurd h (by decide), fun h => h.elim⟩⟩
theorem t_dp46 (x1 x2 x3 x4 : Int) (kk : TW → Int → Int → Int → Int → Option (Int × TW)) : ∃ s' : TW, f_X8_deepest_L46 FU s x1 x2 x3 x4 0 kk = kk s' x1 x2 x3 x4 ∧ LkB 63 (fun _ _ => False) s' ∧ chg [63] [] s s' := by
  refine loop (S := TW × Int) (fun fl q => f_X8_deepest_L46 fl q.1 x1 x2 x3 x4 q.2 kk) (fun o => ∃ s' : TW, o = kk s' x1 x2 x3 x4 ∧ LkB 63 (fun _ _ => False) s' ∧ chg [63] [] s s')
    (fun i q => q.2 = (i : Int) ∧ (∀ j : Int, 0 ≤ j → j < i → q.1.2 63 j = 0) ∧ chg [63] [] s q.1) 2400 ?_ ?_ 2400 0 FU (s, 0) rfl (by decide) ⟨rfl, fun _ _ h => by omega, chg.rf _ _ _⟩
  · rintro fl i ⟨τ, q⟩ hi ⟨rfl, hl, hc⟩
    dsimp only at hl hc ⊢
    right
    refine ⟨(tst τ 63 i 0, ((i + 1 : Nat) : Int)), ?_, rfl, ?_, hc.ts (by decide) _ _⟩
    · rw [f_X8_deepest_L46, nrm_i (z := 2400) (by decide) (by decide), nrm_i (z := (i : Int)) (by omega) (by omega), if_neg (by omega), sb63 (by omega) (by omega), b1_0]
      rfl
    · intro j j0 j1
      dsimp only
      rw [tst_eq]
      by_cases e : j = i
      · rw [e, fuE]
      · rw [fuN _ _ e]; exact hl j j0 (by omega)
  · rintro fl ⟨τ, q⟩ ⟨rfl, hl, hc⟩
    dsimp only at hl hc ⊢
    refine ⟨τ, ?_, fun k v k0 k1 v0 v1 => ?_, hc⟩
    · rw [f_X8_deepest_L46, if_pos (by decide)]
    · rw [hl _ (by omega) (by omega)]
      exact ⟨Or.inl rfl, ⟨fun h => absurd h (by decide), fun h => h.elim⟩⟩
/-- copied -/
theorem t_dp229 {P : Int → Int → Prop} (hP : LkB 64 P s) (x2 x3 x4 x5 : Int) (kk : TW → Int → Int → Int → Int → Option (Int × TW)) : ∃ s' : TW, f_X8_deepest_L229 FU s x2 x3 x4 x5 0 kk = kk s' x2 x3 x4 x5 ∧ LkB 63 P s' ∧ chg [63] [] s s' := by
  refine loop (S := TW × Int) (fun fl q => f_X8_deepest_L229 fl q.1 x2 x3 x4 x5 q.2 kk) (fun o => ∃ s' : TW, o = kk s' x2 x3 x4 x5 ∧ LkB 63 P s' ∧ chg [63] [] s s')
    (fun i q => q.2 = (i : Int) ∧ (∀ j : Int, 0 ≤ j → j < i → q.1.2 63 j = s.2 64 j) ∧ chg [63] [] s q.1) 2400 ?_ ?_ 2400 0 FU (s, 0) rfl (by decide) ⟨rfl, fun _ _ h => by omega, chg.rf _ _ _⟩
  · rintro fl i ⟨τ, q⟩ hi ⟨rfl, hl, hc⟩
    dsimp only at hl hc ⊢
    have e64 : τ.2 64 i = s.2 64 i := congrFun (hc.1 64 (by decide)) _
    have h01 := (hP ((i / 300 : Nat) : Int) ((i % 300 : Nat) : Int) (by omega) (by omega) (by omega) (by omega)).1
    rw [show 300 * ((i / 300 : Nat) : Int) + ((i % 300 : Nat) : Int) = (i : Int) by omega] at h01
    have eb : b1I (s.2 64 i) = s.2 64 i := by rcases h01 with h | h <;> rw [h] <;> decide
    right
    refine ⟨(tst τ 63 i (s.2 64 i), ((i + 1 : Nat) : Int)), ?_, rfl, ?_, hc.ts (by decide) _ _⟩
    · rw [f_X8_deepest_L229, nrm_i (z := 2400) (by decide) (by decide), nrm_i (z := (i : Int)) (by omega) (by omega), if_neg (by omega), tb64 (by omega) (by omega), e64, eb, sb63 (by omega) (by omega)]
      rfl
    · intro j j0 j1
      dsimp only
      rw [tst_eq]
      by_cases e : j = i
      · rw [e, fuE]
      · rw [fuN _ _ e]; exact hl j j0 (by omega)
  · rintro fl ⟨τ, q⟩ ⟨rfl, hl, hc⟩
    dsimp only at hl hc ⊢
    refine ⟨τ, ?_, fun k v k0 k1 v0 v1 => ?_, hc⟩
    · rw [f_X8_deepest_L229, if_pos (by decide)]
    · rw [hl _ (by omega) (by omega)]
      exact hP k v k0 k1 v0 v1
/-- a level -/
theorem t_dp118 (J : TI s X K) {x z : Int} {i : Nat} (hi : i < 3) (hL : LkB 63 (Lp X K x i) s) (h0 : LkB 64 (fun _ _ => False) s) {w0 : Int × Int} (hw : 0 ≤ w0.1 ∧ w0.1 ≤ 300) (kk : TW → Int → Int → Int → Int → Option (Int × TW)) :
    ∃ (s' : TW) (a : Int × Int), f_X8_deepest_L118 FU s z w0.1 w0.2 ((i : Int) + 2) 0 kk = kk s' z a.1 a.2 ((i : Int) + 2) ∧ LkB 64 (Lp X K x (i + 1)) s' ∧ (0 ≤ a.1 ∧ a.1 ≤ 300) ∧ UPd ((i : Int) + 2) (Vp X K x (i + 1)) w0 a ∧ chg [64] [] s s' := by
  have hX := J.1
  have hW := J.2.2.2
  have a0 := hX.1
  have a1 := hX.2.2.1
  have a4 := hX.2.2.2.1
  have a2 := hW.1
  have b3 := J.2.1.1
  have jmi := J.mi
  refine loop (S := TW × (Int × Int) × Int) (fun fl q => f_X8_deepest_L118 fl q.1 z q.2.1.1 q.2.1.2 ((i : Int) + 2) q.2.2 kk) (fun o => ∃ (s' : TW) (a : Int × Int), o = kk s' z a.1 a.2 ((i : Int) + 2) ∧ LkB 64 (Lp X K x (i + 1)) s' ∧ (0 ≤ a.1 ∧ a.1 ≤ 300) ∧ UPd ((i : Int) + 2) (Vp X K x (i + 1)) w0 a ∧ chg [64] [] s s')
    (fun j q => q.2.2 = (j : Int) ∧ LkB 64 (fun q w => ∃ k v : Int, (300 * k + v < j ∧ Lp X K x i k v) ∧ (0 ≤ q ∧ q < xK X) ∧ 0 ≤ w ∧ sn K k v q = w) q.1 ∧ (0 ≤ q.2.1.1 ∧ q.2.1.1 ≤ 300) ∧ UPd ((i : Int) + 2) (fun w => ∃ q k v : Int, (300 * k + v < j ∧ Lp X K x i k v) ∧ (0 ≤ q ∧ q < xK X) ∧ 0 ≤ w ∧ sn K k v q = w) w0 q.2.1 ∧ chg [64] [] s q.1) 2400 ?_ ?_ 2400 0 FU (s, w0, 0) rfl (by decide)
    ⟨rfl, h0.cg (fun q w => ⟨fun h => h.elim, fun ⟨k, v, h, _⟩ => by have := Lp_in hW h.2; omega⟩), hw, (UPd.rf _ _).cg (fun w => ⟨fun h => h.elim, fun ⟨q, k, v, h, _⟩ => by have := Lp_in hW h.2; omega⟩), chg.rf _ _ _⟩
  · rintro fl j ⟨τ, a, q⟩ hj ⟨rfl, hl, hb, hu, hc⟩
    dsimp only at hl hb hu hc ⊢
    have J2 : TI τ X K := J.chg hc (by decide) (by decide) (by decide) (by decide)
    have e63 : τ.2 63 j = s.2 63 j := congrFun (hc.1 63 (by decide)) _
    have h01 := hL ((j / 300 : Nat) : Int) ((j % 300 : Nat) : Int) (by omega) (by omega) (by omega) (by omega)
    rw [show 300 * ((j / 300 : Nat) : Int) + ((j % 300 : Nat) : Int) = (j : Int) by omega] at h01
    right
    by_cases d : s.2 63 j = 1
    · have hLp := h01.2.mp d
      have hin := Lp_in hW hLp
      obtain ⟨s2, a2', e2, l2, b2, u2, c2⟩ := t_dp142 J2 rfl (n := (i : Int) + 2) (j := j) (by omega) hj rfl rfl hin.1.2 hin.2.2 (z := z) hb hl (fun s25 x2 x3 x4 x5 x6 => f_X8_deepest_L118 fl s25 x2 x3 x4 x5 (x6 + 1) kk)
      refine ⟨(s2, a2', ((j + 1 : Nat) : Int)), ?_, rfl, l2.cg (fun q w => ⟨fun h => ?_, fun ⟨k, v, h1, h2⟩ => ?_⟩), b2, (hu.tr u2).cg (fun w => ⟨fun h => ?_, fun ⟨q, k, v, h1, h2⟩ => ?_⟩), hc.tr c2⟩
      · rw [f_X8_deepest_L118, nrm_i (z := 2400) (by decide) (by decide), nrm_i (z := (j : Int)) (by omega) (by omega), if_neg (by omega), tb63 (by omega) (by omega), e63, d, if_pos (by decide), e2]
        rfl
      · rcases h with ⟨k, v, h1, h2⟩ | h
        · exact ⟨k, v, ⟨by omega, h1.2⟩, h2⟩
        · exact ⟨_, _, ⟨by omega, hLp⟩, h⟩
      · have hi2 := Lp_in hW h1.2
        by_cases e : 300 * k + v = j
        · right
          have ek : k = ((j / 300 : Nat) : Int) := by omega
          have ev : v = ((j % 300 : Nat) : Int) := by omega
          rw [← ek, ← ev]; exact h2
        · exact Or.inl ⟨k, v, ⟨by omega, h1.2⟩, h2⟩
      · rcases h with ⟨q, k, v, h1, h2⟩ | ⟨q, h⟩
        · exact ⟨q, k, v, ⟨by omega, h1.2⟩, h2⟩
        · exact ⟨q, _, _, ⟨by omega, hLp⟩, h⟩
      · have hi2 := Lp_in hW h1.2
        by_cases e : 300 * k + v = j
        · right
          have ek : k = ((j / 300 : Nat) : Int) := by omega
          have ev : v = ((j % 300 : Nat) : Int) := by omega
          rw [← ek, ← ev]; exact ⟨q, h2⟩
        · exact Or.inl ⟨q, k, v, ⟨by omega, h1.2⟩, h2⟩
    · have d0 : s.2 63 j = 0 := by omega
      have hno : ∀ k v : Int, Lp X K x i k v → ¬ 300 * k + v = j := fun k v h e => by
        have hi2 := Lp_in hW h
        have ek : k = ((j / 300 : Nat) : Int) := by omega
        have ev : v = ((j % 300 : Nat) : Int) := by omega
        rw [ek, ev] at h
        exact d (h01.2.mpr h)
      refine ⟨(τ, a, ((j + 1 : Nat) : Int)), ?_, rfl, hl.cg (fun q w => ⟨fun ⟨k, v, h1, h2⟩ => ⟨k, v, ⟨by omega, h1.2⟩, h2⟩, fun ⟨k, v, h1, h2⟩ => ⟨k, v, ⟨by have := hno k v h1.2; omega, h1.2⟩, h2⟩⟩), hb, hu.cg (fun w => ⟨fun ⟨q, k, v, h1, h2⟩ => ⟨q, k, v, ⟨by omega, h1.2⟩, h2⟩, fun ⟨q, k, v, h1, h2⟩ => ⟨q, k, v, ⟨by have := hno k v h1.2; omega, h1.2⟩, h2⟩⟩), hc⟩
      rw [f_X8_deepest_L118, nrm_i (z := 2400) (by decide) (by decide), nrm_i (z := (j : Int)) (by omega) (by omega), if_neg (by omega), tb63 (by omega) (by omega), e63, d0, if_neg (by decide)]
      rfl
  · rintro fl ⟨τ, a, q⟩ ⟨rfl, hl, hb, hu, hc⟩
    dsimp only at hl hb hu hc ⊢
    refine ⟨τ, a, ?_, hl.cg (fun q w => ?_), hb, hu.cg (fun w => ?_), hc⟩
    · rw [f_X8_deepest_L118, if_pos (by decide)]
    · rw [Lp_s X K hW]
      exact ⟨fun ⟨k, v, h1, h2, h3, h4⟩ => ⟨h2, h3, k, v, h1.2, h4⟩, fun ⟨h2, h3, k, v, h1, h4⟩ => ⟨k, v, ⟨by have := Lp_in hW h1; omega, h1⟩, h2, h3, h4⟩⟩
    · constructor
      · rintro ⟨q, k, v, h1, h2, h3, h4⟩
        exact ⟨q, (Lp_s X K hW x i q w).mpr ⟨h2, h3, k, v, h1.2, h4⟩⟩
      · rintro ⟨q, h⟩
        obtain ⟨h2, h3, k, v, h1, h4⟩ := (Lp_s X K hW x i q w).mp h
        exact ⟨q, k, v, ⟨by have := Lp_in hW h1; omega, h1⟩, h2, h3, h4⟩
theorem t_deepest (Q : TQ s X K) {x z : Int} (wx : wd x) (wz : wd z) : ∃ s' : TW, f_X8_deepest s x z = some (q_deepest X K x z, s') ∧ chg qk qf s s' := by
  obtain ⟨hX, hs, hn, hW⟩ := Q
  have Q : TQ s X K := ⟨hX, hs, hn, hW⟩
  have hmi := Q.mi
  have a0 := hX.1
  have a1 := hX.2.2.1
  have a4 := hX.2.2.2.1
  have a3 := hs.1
  have a2 := hW.1
  obtain ⟨s1, e1, J, l1, C⟩ := Q.copies
  have C := C.up (ks' := qk) (fs' := qf) (by decide) (by decide)
  have b3 := J.2.1.1
  have jmi := J.mi
  unfold f_X8_deepest q_deepest
  by_cases G : (0 ≤ x ∧ x < xK X) ∧ (0 ≤ z ∧ z ≤ 1)
  · rw [if_pos G]
    obtain ⟨c1, c2⟩ := G
    have hsw := shw_le hW c1.1 c1.2 a2.1 (Int.le_refl _)
    have eshw : ∀ {β : Type} (f : Int → TW → Option β), bt_ (f_X8_showsAt s1 x (s1.1 57)) f = f (shw K x (kMi K)) s1 := fun f => by rw [jmi]; exact tb_showsAt J c1.1 c1.2 a2.1 (Int.le_refl _) f
    have nS := n_S hW c1.1 c1.2 a2.1 (Int.le_refl _)
    have hL0 : ∀ k v : Int, Lp X K x 0 k v ↔ (k = x ∧ v = shw K x (kMi K)) ∧ 0 ≤ v := by
      intro k v
      constructor
      · rintro ⟨h0, h1, t, h2, h3, h4⟩
        have h3 : (decide (k = x) && decide ((t : Int) = kMi K)) = true := h3
        rw [Bool.and_eq_true, decide_eq_true_iff, decide_eq_true_iff] at h3
        rw [h3.2, h3.1] at h4
        exact ⟨⟨h3.1, h4.symm⟩, h1⟩
      · rintro ⟨⟨rfl, rfl⟩, h1⟩
        refine ⟨c1, h1, (kMi K).toNat, by omega, ?_, by rw [show (((kMi K).toNat : Nat) : Int) = kMi K by omega]⟩
        show (decide (k = k) && decide ((((kMi K).toNat : Nat) : Int) = kMi K)) = true
        rw [show (((kMi K).toNat : Nat) : Int) = kMi K by omega]
        simp
    by_cases d : shw K x (kMi K) < 0
    · have hno : ∀ (n : Nat) (k v : Int), ¬ Lp X K x n k v := by
        intro n
        induction n with
        | zero => intro k v h; have := (hL0 k v).mp h; omega
        | succ n ih =>
          intro k v h
          obtain ⟨-, -, k', v', h', -⟩ := (Lp_s X K hW x n k v).mp h
          exact ih k' v' h'
      have hlv : ∀ n : Nat, lvN X K x n = (300, 0) := by
        intro n
        induction n with
        | zero => rfl
        | succ n ih =>
          have := lv_up hW x n
          rcases this.2.2 with h | ⟨⟨k, h⟩, -⟩
          · rw [h, ih]
          · exact absurd h (hno n k _)
      rw [hlv 4, if_pos rfl]
      refine ⟨s1, ?_, C⟩
      simp (disch := omega) only [↓reduceIte, Bool.false_eq_true, nrm_i, ltT, ltF, leT, leF, eqT, eqF, not_true_eq_false, not_false_eq_true, and_self, and_true, true_and, false_and, and_false, or_true, true_or, or_false, false_or, ↓btS, ↓bnS, ↓bdS, ↓jnS, ↓obS, n_W hX hW, n_R hW, n_H hX hW, n_U hW, n_L hW, n_B hW, n_S hW, n_M hX, n_Ms hX, n_P, ↓ti_t, ↓ti_f, ↓tman_t hX hs, ↓tman_f hX hs, ↓troom_t hX hs, ↓troom_f hX hs, ↓tmir_t hX hs, ↓tmir_f hX hs, ↓tpas_t hn hW, ↓tpas_f hn hW, hmi, ↓pv_W Q, ↓pv_R Q, ↓pv_B Q, ↓tb52, p_W Q, p_R Q, ↓tz_R hs, ↓tz_M hs, ↓tz_K hs, ↓btP e1, ↓eshw, nS]
    · have hv : 0 ≤ shw K x (kMi K) ∧ shw K x (kMi K) ≤ kMi K := by omega
      have hlv1 : lvN X K x 1 = (shw K x (kMi K), 1) := by
        refine (lv_up hW x 0).uq ⟨by show shw K x (kMi K) ≤ 300; omega, fun v ⟨k, h⟩ => ?_, Or.inr ⟨⟨x, (hL0 x _).mpr ⟨⟨rfl, rfl⟩, hv.1⟩⟩, by show shw K x (kMi K) < 300; omega, rfl⟩⟩
        have := (hL0 k v).mp h
        show shw K x (kMi K) ≤ v
        omega
      obtain ⟨s2, e2, l2, C2⟩ := t_dp46 (s := s1) x z (shw K x (kMi K)) 1 (fun s10 x1 x2 x3 x4 => (ts s10 63 ((300 * x1) + x3) (b1I 1)).bind fun s11 => f_X8_deepest_L84 FU s11 x2 x3 x4 2 (fun s34 x2 x3 x4 => (if ¬ nrm x2 = 0 then (some (nrm x4, s34)) else (some (nrm x3, s34)))))
      have l3 : LkB 63 (Lp X K x 0) (tst s2 63 (300 * x + shw K x (kMi K)) 1) := (l2.wr (j := x) (w := shw K x (kMi K)) c1.1 (by omega) hv.1 (by omega)).cg (fun k v => by
        rw [hL0]
        exact ⟨fun h => h.elim (fun h => h.elim) (fun h => ⟨h, by omega⟩), fun h => Or.inr h.1⟩)
      have C3 : chg [63, 64] [] s1 (tst s2 63 (300 * x + shw K x (kMi K)) 1) := (C2.up (by decide) (by decide)).ts (by decide) _ _
      have hJ : ∀ {τ : TW}, chg [63, 64] [] s1 τ → TI τ X K := fun c => J.chg c (by decide) (by decide) (by decide) (by decide)
      have lp : ∃ s' : TW, f_X8_deepest_L84 FU (tst s2 63 (300 * x + shw K x (kMi K)) 1) z (shw K x (kMi K)) 1 2 (fun s34 x2 x3 x4 => (if ¬ nrm x2 = 0 then (some (nrm x4, s34)) else (some (nrm x3, s34)))) = some (if (lvN X K x 4).1 = 300 then -2 else if z = 0 then (lvN X K x 4).1 else (lvN X K x 4).2, s') ∧ chg [63, 64] [] s1 s' := by
        refine loop (S := TW × (Int × Int) × Int) (fun fl q => f_X8_deepest_L84 fl q.1 z q.2.1.1 q.2.1.2 q.2.2 (fun s34 x2 x3 x4 => (if ¬ nrm x2 = 0 then (some (nrm x4, s34)) else (some (nrm x3, s34))))) (fun o => ∃ s' : TW, o = some (if (lvN X K x 4).1 = 300 then -2 else if z = 0 then (lvN X K x 4).1 else (lvN X K x 4).2, s') ∧ chg [63, 64] [] s1 s')
          (fun i q => q.2.2 = (i : Int) + 2 ∧ LkB 63 (Lp X K x i) q.1 ∧ (q.2.1 = lvN X K x (i + 1) ∧ q.2.1.1 ≤ kMi K) ∧ chg [63, 64] [] s1 q.1) 3 ?_ ?_ 3 0 FU (tst s2 63 (300 * x + shw K x (kMi K)) 1, (shw K x (kMi K), 1), 2) rfl (by decide) ⟨rfl, l3, ⟨hlv1.symm, hv.2⟩, C3⟩
        · rintro fl i ⟨τ, a, q⟩ hi ⟨rfl, hl, ⟨ha, ham⟩, hc⟩
          dsimp only at hl ha ham hc ⊢
          subst ha
          have hb := lv_in X K x (i + 1)
          obtain ⟨y1, f1, m1, d1⟩ := t_dp93 (s := τ) z (lvN X K x (i + 1)).1 (lvN X K x (i + 1)).2 ((i : Int) + 2) (fun s14 x2 x3 x4 x5 => f_X8_deepest_L118 FU s14 x2 x3 x4 x5 0 (fun s28 x2 x3 x4 x5 => f_X8_deepest_L229 FU s28 x2 x3 x4 x5 0 (fun s32 x2 x3 x4 x5 => f_X8_deepest_L84 fl s32 x2 x3 x4 (x5 + 1) (fun s34 x2 x3 x4 => (if ¬ nrm x2 = 0 then (some (nrm x4, s34)) else (some (nrm x3, s34)))))))
          have hc1 : chg [63, 64] [] s1 y1 := hc.tr (d1.up (by decide) (by decide))
          have hl1 : LkB 63 (Lp X K x i) y1 := fun k v k0 k1 v0 v1 => by rw [d1.1 63 (by decide)]; exact hl k v k0 k1 v0 v1
          obtain ⟨y2, a', f2, m2, b2, u2, d2⟩ := t_dp118 (hJ hc1) (z := z) hi hl1 m1 ⟨hb.1, hb.2.1⟩ (fun s28 x2 x3 x4 x5 => f_X8_deepest_L229 FU s28 x2 x3 x4 x5 0 (fun s32 x2 x3 x4 x5 => f_X8_deepest_L84 fl s32 x2 x3 x4 (x5 + 1) (fun s34 x2 x3 x4 => (if ¬ nrm x2 = 0 then (some (nrm x4, s34)) else (some (nrm x3, s34))))))
          have hup := lv_up hW x (i + 1)
          rw [show ((i + 1 : Nat) : Int) + 1 = (i : Int) + 2 by omega] at hup
          have ea : a' = lvN X K x (i + 2) := u2.uq hup
          obtain ⟨y3, f3, m3, d3⟩ := t_dp229 m2 z a'.1 a'.2 ((i : Int) + 2) (fun s32 x2 x3 x4 x5 => f_X8_deepest_L84 fl s32 x2 x3 x4 (x5 + 1) (fun s34 x2 x3 x4 => (if ¬ nrm x2 = 0 then (some (nrm x4, s34)) else (some (nrm x3, s34)))))
          right
          refine ⟨(y3, a', ((i + 1 : Nat) : Int) + 2), ?_, rfl, m3, ⟨ea, by have := u2.1; dsimp only; omega⟩, (hc1.tr (d2.up (by decide) (by decide))).tr (d3.up (by decide) (by decide))⟩
          rw [f_X8_deepest_L84, nrm_i (z := 5) (by decide) (by decide), nrm_i (z := (i : Int) + 2) (by omega) (by omega), if_neg (by omega), f1, f2, f3, show ((i + 1 : Nat) : Int) + 2 = (i : Int) + 2 + 1 by omega]
        · rintro fl ⟨τ, a, q⟩ ⟨rfl, hl, ⟨ha, ham⟩, hc⟩
          dsimp only at hl ha ham hc ⊢
          have hb := lv_in X K x 4
          refine ⟨τ, ?_, hc⟩
          rw [f_X8_deepest_L84, if_pos (by decide)]
          have ha : a = lvN X K x 4 := ha
          rw [← ha] at hb ⊢
          rw [nrm_i (z := a.1) (by omega) (by omega), nrm_i (z := a.2) (by omega) (by omega), nrm_i (z := z) (by omega) (by omega), if_neg (show ¬ a.1 = 300 by omega)]
          by_cases d2 : z = 0
          · rw [if_neg (fun h => h d2), if_pos d2]
          · rw [if_pos d2, if_neg d2]
      obtain ⟨s', e9, C9⟩ := lp
      refine ⟨s', ?_, C.tr (C9.up (by decide) (by decide))⟩
      have e3 := e2.trans (by rw [b1_1, sb63 (by omega) (by omega), e9])
      simp (disch := omega) only [↓reduceIte, Bool.false_eq_true, nrm_i, ltT, ltF, leT, leF, eqT, eqF, not_true_eq_false, not_false_eq_true, and_self, and_true, true_and, false_and, and_false, or_true, true_or, or_false, false_or, ↓btS, ↓bnS, ↓bdS, ↓jnS, ↓obS, n_W hX hW, n_R hW, n_H hX hW, n_U hW, n_L hW, n_B hW, n_S hW, n_M hX, n_Ms hX, n_P, ↓ti_t, ↓ti_f, ↓tman_t hX hs, ↓tman_f hX hs, ↓troom_t hX hs, ↓troom_f hX hs, ↓tmir_t hX hs, ↓tmir_f hX hs, ↓tpas_t hn hW, ↓tpas_f hn hW, hmi, ↓pv_W Q, ↓pv_R Q, ↓pv_B Q, ↓tb52, p_W Q, p_R Q, ↓tz_R hs, ↓tz_M hs, ↓tz_K hs, ↓btP e1, ↓eshw, nS, ↓e3]
  · rw [if_neg G]
    refine ⟨s, ?_, chg.rf _ _ _⟩
    by_cases c1 : 0 ≤ x ∧ x < xK X
    · by_cases c2 : 0 ≤ z ∧ z ≤ 1
      · exact absurd ⟨c1, c2⟩ G
      · simp (disch := omega) only [↓reduceIte, Bool.false_eq_true, nrm_i, ltT, ltF, leT, leF, eqT, eqF, not_true_eq_false, not_false_eq_true, and_self, and_true, true_and, false_and, and_false, or_true, true_or, or_false, false_or, ↓btS, ↓bnS, ↓bdS, ↓jnS, ↓obS, n_W hX hW, n_R hW, n_H hX hW, n_U hW, n_L hW, n_B hW, n_S hW, n_M hX, n_Ms hX, n_P, ↓ti_t, ↓ti_f, ↓tman_t hX hs, ↓tman_f hX hs, ↓troom_t hX hs, ↓troom_f hX hs, ↓tmir_t hX hs, ↓tmir_f hX hs, ↓tpas_t hn hW, ↓tpas_f hn hW, hmi, ↓pv_W Q, ↓pv_R Q, ↓pv_B Q, ↓tb52, p_W Q, p_R Q, ↓tz_R hs, ↓tz_M hs, ↓tz_K hs]
    · simp (disch := omega) only [↓reduceIte, Bool.false_eq_true, nrm_i, ltT, ltF, leT, leF, eqT, eqF, not_true_eq_false, not_false_eq_true, and_self, and_true, true_and, false_and, and_false, or_true, true_or, or_false, false_or, ↓btS, ↓bnS, ↓bdS, ↓jnS, ↓obS, n_W hX hW, n_R hW, n_H hX hW, n_U hW, n_L hW, n_B hW, n_S hW, n_M hX, n_Ms hX, n_P, ↓ti_t, ↓ti_f, ↓tman_t hX hs, ↓tman_f hX hs, ↓troom_t hX hs, ↓troom_f hX hs, ↓tmir_t hX hs, ↓tmir_f hX hs, ↓tpas_t hn hW, ↓tpas_f hn hW, hmi, ↓pv_W Q, ↓pv_R Q, ↓pv_B Q, ↓tb52, p_W Q, p_R Q, ↓tz_R hs, ↓tz_M hs, ↓tz_K hs]
end

set_option maxRecDepth 100000
set_option maxHeartbeats 1000000
/-! ===== PURE: states stay sound ===== -/
section
variable {M : Mst}
theorem w_minutes (h : WfM M) (n : Int) : WfM (a_minutes M n) := by
  unfold a_minutes
  split
  · next c => exact h.push (rn_Ok h.1 h.2.1 (by omega)) (rn_blw _ _ _)
  · exact h
theorem w_go (h : WfM M) (x y : Int) : WfM (a_go M x y) := by
  unfold a_go
  by_cases c : g_go M x y
  · rw [if_pos c]
    have hw := (h.2.1.1.2.1 x (kMi (mK M)) c.1.1 c.1.2 h.2.1.1.1.1 (Int.le_refl _)).1
    exact h.push (Ok_lks h.1 ((h.2.1.1.le (by show kMi (mK M) - 1 ≤ _; omega)).setW x _ (thr1_in h.1 hw)) h.2.1.2.1) (now_W _ _ _ _).lk.blw
  · rw [if_neg c]; exact h
theorem w_raise (h : WfM M) (x y : Int) : WfM (a_raise M x y) := by
  unfold a_raise
  by_cases c : g_raise M x y
  · rw [if_pos c]
    exact h.push (Ok_lks h.1 ((h.2.1.1.le (by show kMi (mK M) - 1 ≤ _; omega)).setR x _ c.2.1) h.2.1.2.1) (now_R _ _ _ _).lk.blw
  · rw [if_neg c]; exact h
theorem w_carry (h : WfM M) (x y : Int) : WfM (a_carry M x y) := by
  unfold a_carry
  by_cases c : g_carry M x y
  · rw [if_pos c]
    exact h.push (Ok_lks h.1 ((h.2.1.1.le (by show kMi (mK M) - 1 ≤ _; omega)).setH x _ c.2.1) h.2.1.2.1) (now_H _ _ _ _).lk.blw
  · rw [if_neg c]; exact h
theorem w_turn (h : WfM M) (x : Int) {y : Int} (hy : y = 0 ∨ y = 1) : WfM (a_turn M x y) := by
  unfold a_turn
  by_cases c : g_turn M x y
  · rw [if_pos c]
    exact h.push (Ok_U h.2.1 x hy) (now_U _ _ _ _).blw
  · rw [if_neg c]; exact h
theorem w_smash (h : WfM M) (x : Int) : WfM (a_smash M x) := by
  unfold a_smash
  by_cases c : g_smash M x
  · rw [if_pos c]
    exact h.push (Ok_B h.2.1 c.1.1 c.1.2) (now_B _ _ _ _ _).blw
  · rw [if_neg c]; exact h
theorem w_undo (h : WfM M) : WfM (a_undo M) := by
  obtain ⟨h1, h2, ⟨h3, h4, h5⟩, h6⟩ := h
  unfold a_undo
  rcases e : mU M with _ | ⟨U, l⟩
  · exact ⟨h1, h2, ⟨h3, h4, h5⟩, h6⟩
  · rw [e] at h3 h4 h5
    exact ⟨h1, h4 U List.mem_cons_self, ⟨Nat.le_of_succ_le h3, fun V hV => h4 V (List.mem_cons_of_mem _ hV), h5.2⟩, h6⟩
theorem w_hold (h : WfM M) (x : Int) : WfM (a_hold M x) := by
  unfold a_hold
  by_cases c : g_hold x
  · rw [if_pos c]
    obtain ⟨h1, h2, h3, h4, h5⟩ := h
    refine ⟨h1, h2, h3, fun i i0 i1 => ?_, h5⟩
    show (fu (mHd M) x 1 i = 0 ∨ fu (mHd M) x 1 i = 1) ∧ (fu (mHd M) x 1 i = 1 → OkK (mX M) (fu (mSl M) x (mK M) i))
    by_cases ei : i = x
    · rw [ei, fuE, fuE]
      exact ⟨Or.inr rfl, fun _ => h2⟩
    · rw [fuN _ _ ei, fuN _ _ ei]
      exact h4 i i0 i1
  · rw [if_neg c]; exact h
theorem w_restore (h : WfM M) (x : Int) : WfM (a_restore M x) := by
  unfold a_restore
  by_cases c : g_restore M x
  · rw [if_pos c]
    obtain ⟨h1, h2, h3, h4, h5⟩ := h
    exact ⟨h1, (h4 x c.1.1 (by have := c.1.2; omega)).2 c.2, ⟨Nat.zero_le 20, fun V hV => absurd hV List.not_mem_nil, trivial⟩, h4, h5⟩
  · rw [if_neg c]; exact h
theorem w_tell (h : WfM M) (x y z : Int) {b : Int} (hb : b = 0 ∨ b = 1) : WfM (a_tell M x y z b) := by
  unfold a_tell
  by_cases c : g_tell M x y z
  · rw [if_pos c]
    obtain ⟨c1, c2, c3, c4⟩ := c
    obtain ⟨h1, h2, h3, h4, h5, h6⟩ := h
    refine ⟨h1, h2, h3, h4, ⟨?_, fun i i0 i1 => ?_⟩, h6⟩
    · show 0 ≤ (mT M).1 + 1 ∧ (mT M).1 + 1 ≤ 20
      have := h5.1
      omega
    · have i1 : i < (mT M).1 + 1 := i1
      show (0 ≤ fu (mT M).2.1 (mT M).1 x i ∧ fu (mT M).2.1 (mT M).1 x i < _) ∧ (0 ≤ fu (mT M).2.2.1 (mT M).1 y i ∧ fu (mT M).2.2.1 (mT M).1 y i ≤ _) ∧ (0 ≤ fu (mT M).2.2.2.1 (mT M).1 z i ∧ fu (mT M).2.2.2.1 (mT M).1 z i < _) ∧ (fu (mT M).2.2.2.2 (mT M).1 b i = 0 ∨ fu (mT M).2.2.2.2 (mT M).1 b i = 1)
      by_cases ei : i = (mT M).1
      · rw [ei, fuE, fuE, fuE, fuE]
        exact ⟨c1, c2, c3, hb⟩
      · rw [fuN _ _ ei, fuN _ _ ei, fuN _ _ ei, fuN _ _ ei]
        exact h5.2 i i0 (by omega)
  · rw [if_neg c]; exact h
theorem w_forget (h : WfM M) : WfM (a_forget M) := by
  obtain ⟨h1, h2, h3, h4, h5, h6⟩ := h
  exact ⟨h1, h2, h3, h4, ⟨⟨Int.le_refl 0, by show (0 : Int) ≤ 20; decide⟩, fun i i0 i1 => by have i1 : i < 0 := i1; omega⟩, h6⟩
theorem w_back (h : WfM M) (x : Int) : WfM (a_back M x) := by
  unfold a_back
  by_cases c : g_back M x
  · rw [if_pos c]
    obtain ⟨h1, h2, h3, h4, h5, ⟨h6, h7⟩, h8⟩ := h
    have c1 := c.1
    have c2 := c.2
    exact ⟨h1, h2, h3, h4, h5, ⟨by show 0 ≤ mTn M - x ∧ mTn M - x ≤ 2000; omega, fun i i0 i1 => h7 i i0 (by have i1 : i < mTn M - x := i1; omega)⟩, h8⟩
  · rw [if_neg c]; exact h
theorem i8_in (x : Int) : -128 ≤ i8I x ∧ i8I x ≤ 127 := by
  unfold i8I
  have h1 := Int8.le_toInt (iI x).toInt8
  have h2 := Int8.toInt_lt (iI x).toInt8
  rw [Int8.toInt_toInt32]
  omega
/-- bytes stay bytes -/
def WfP (p : Int × (Int → Int)) : Prop := 0 ≤ p.1 ∧ ∀ i : Int, 0 ≤ i → i < p.1 → -128 ≤ p.2 i ∧ p.2 i ≤ 127
theorem WfP.b {p : Int × (Int → Int)} (h : WfP p) (v k : Int) : WfP (tpb p v k) := by
  refine ⟨by have := h.1; show 0 ≤ p.1 + 1; omega, fun i i0 i1 => ?_⟩
  have i1 : i < p.1 + 1 := i1
  show -128 ≤ fu p.2 p.1 (byI v k) i ∧ fu p.2 p.1 (byI v k) i ≤ 127
  by_cases ei : i = p.1
  · rw [ei, fuE]; exact i8_in _
  · rw [fuN _ _ ei]; exact h.2 i i0 (by omega)
theorem WfP.t {p : Int × (Int → Int)} (h : WfP p) (v : Int) : WfP (tpt p v) := (((h.b v 24).b v 16).b v 8).b v 0
theorem w_feed (h : WfM M) (a b c d e : Int) : WfM (a_feed M a b c d e) := by
  unfold a_feed
  by_cases g : g_feed M
  · rw [if_pos g]
    obtain ⟨h1, h2, h3, h4, h5, ⟨h6, h7⟩, h8⟩ := h
    have hp : WfP (mTn M, mTp M) := ⟨h6.1, h7⟩
    have hq := ((((hp.t a).t b).t c).t d).t e
    refine ⟨h1, h2, h3, h4, h5, ⟨⟨hq.1, ?_⟩, hq.2⟩, h8⟩
    show mTn M + 1 + 1 + 1 + 1 + 1 + 1 + 1 + 1 + 1 + 1 + 1 + 1 + 1 + 1 + 1 + 1 + 1 + 1 + 1 + 1 ≤ 2000
    have g1 : mTn M + 20 ≤ 2000 := g
    omega
  · rw [if_neg g]; exact h
end

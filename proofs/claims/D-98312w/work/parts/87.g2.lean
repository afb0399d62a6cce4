set_option maxRecDepth 100000
set_option maxHeartbeats 1000000
/-! ===== PURE: the component holds a state ===== -/
def UnC (σ : Hp) (o : Nat) (X : Txt) (K : Crt) (U : List Crt) : Prop := ∃ p : Int, (0 ≤ p ∧ p < 20) ∧ ci σ o 6 = p ∧ ci σ o 5 = (U.length : Int) ∧ ∀ j : Nat, j < U.length → Cat σ (o + 277 + 47 * ((p - 1 - j) % 20).toNat) X (U.getD j K)
def SlC (σ : Hp) (o : Nat) (X : Txt) (H : Int → Int) (S : Int → Crt) : Prop := ∀ i : Int, 0 ≤ i → i < 3 → ci σ (o + 251) i = H i ∧ (H i = 1 → Cat σ (o + 110 + 47 * i.toNat) X (S i))
def TpC (σ : Hp) (o : Nat) (n : Int) (f : Int → Int) : Prop := ci σ (o + 2) 2 = n ∧ ∀ i : Int, 0 ≤ i → i < n → ci σ (o + 4) i = f i
def CInv (Z : Nat → Prop) (σ : Hp) (o r : Nat) (M : Mst) : Prop := QI Z σ o r (mX M) (mK M) ∧ UnC σ o (mX M) (mK M) (mU M) ∧ SlC σ o (mX M) (mHd M) (mSl M) ∧ TlC σ o (mT M) ∧ TpC σ o (mTn M) (mTp M) ∧ ci σ o 4 = mPl M
section
variable {Z : Nat → Prop} {σ σ' τ : Hp} {o r : Nat} {X : Txt} {K : Crt} {M : Mst} {β : Type}
theorem chgQ.st {o : Nat} {a b : Hp} (h : chgQ o a b) : chgH (stS o) a b := h.1.up fun x hx => by unfold stS; unfold qS at hx; omega
theorem CInv.q (C : CInv Z σ o r M) (q : chgQ o σ τ) : CInv Z τ o r M := by
  obtain ⟨I, ⟨p, u1, u2, u3, u4⟩, S, T, P, L⟩ := C
  have hX := I.2.2.2.2.1
  refine ⟨I.chg q, ⟨p, u1, by rw [q.2 6 (by decide)]; exact u2, by rw [q.2 5 (by decide)]; exact u3, fun j hj => (u4 j hj).same q.1 (fun k hk h => by unfold qS at h; omega) hX⟩, fun i i0 i1 => ?_, T.chg q, ?_, by rw [q.2 4 (by decide)]; exact L⟩
  · rw [q.1.num (a := o + 251) (by unfold qS; omega)]
    exact ⟨(S i i0 i1).1, fun h => ((S i i0 i1).2 h).same q.1 (fun k hk h => by unfold qS at h; omega) hX⟩
  · refine ⟨by rw [q.1.num (a := o + 2) (by unfold qS; omega)]; exact P.1, fun i i0 i1 => ?_⟩
    rw [q.1.num (a := o + 4) (by unfold qS; omega)]
    exact P.2 i i0 i1
/-- the court changes -/
theorem CInv.crt (C : CInv Z σ o r M) {K' : Crt} (c : chgH (crtS (o + 14)) σ τ) (hK : Cat τ (o + 14) (mX M) K') (hW : WfK (mX M) K') : CInv Z τ o r (mPut M K' (mU M)) := by
  obtain ⟨I, ⟨p, u1, u2, u3, u4⟩, S, T, P, L⟩ := C
  have hX := I.2.2.2.2.1
  have eo : ci τ o = ci σ o := c.num (by unfold crtS; omega)
  have hZ : ∀ x, Z x → ¬ crtS (o + 14) x := fun x hz h => I.2.2.1 x hz (by unfold stS; unfold crtS at h; omega)
  refine ⟨⟨I.1.chg c, I.2.1.same (agr_chg c hZ), I.2.2.1, hK, hX, hW⟩, ⟨p, u1, by rw [eo]; exact u2, by rw [eo]; exact u3, fun j hj => ?_⟩, fun i i0 i1 => ?_, ?_, ?_, by rw [eo]; exact L⟩
  · have h1 : ((mU (mPut M K' (mU M))).getD j (mK (mPut M K' (mU M)))) = (mU M).getD j (mK M) := by
      show (mU M).getD j K' = (mU M).getD j (mK M)
      have hj : j < (mU M).length := hj
      rw [List.getD_eq_getElem?_getD, List.getD_eq_getElem?_getD, List.getElem?_eq_getElem hj]
      rfl
    rw [h1]
    exact (u4 j hj).same c (fun k hk h => by unfold crtS at h; omega) hX
  · rw [c.num (a := o + 251) (by unfold crtS; omega)]
    exact ⟨(S i i0 i1).1, fun h => ((S i i0 i1).2 h).same c (fun k hk h => by unfold crtS at h; omega) hX⟩
  · refine ⟨by rw [eo]; exact T.1, fun i i0 i1 => ?_⟩
    rw [c.num (a := o + 273) (by unfold crtS; omega), c.num (a := o + 274) (by unfold crtS; omega), c.num (a := o + 275) (by unfold crtS; omega), c.num (a := o + 276) (by unfold crtS; omega)]
    exact T.2 i i0 i1
  · refine ⟨by rw [c.num (a := o + 2) (by unfold crtS; omega)]; exact P.1, fun i i0 i1 => ?_⟩
    rw [c.num (a := o + 4) (by unfold crtS; omega)]
    exact P.2 i i0 i1
theorem crt_st {a b : Hp} (c : chgH (crtS (o + 14)) a b) : chgH (stS o) a b := c.up fun x hx => by unfold crtS at hx; unfold stS; omega
theorem h_keeps (C : CInv Z σ o r M) (hM : WfM M) : ∃ σ' : Hp, f_X0_keeps σ o = some ((), σ') ∧ CInv Z σ' o r (mPut M (mK M) ((mK M :: mU M).take 20)) ∧ chgH (stS o) σ σ' := by
  have C0 := C
  obtain ⟨I, ⟨p, u1, u2, u3, u4⟩, S, T, P, L⟩ := C
  obtain ⟨hO, hx, hZ, hK, hX, hW⟩ := I
  have I : QI Z σ o r (mX M) (mK M) := ⟨hO, hx, hZ, hK, hX, hW⟩
  have hlen := hM.2.2.1.1
  have hcp := hO.undo u1.1 u1.2
  obtain ⟨σ1, e1, k1, c1⟩ := h_takes hcp hO.court (Or.inr (by omega)) hK hX hW
  have eo : ci σ1 o = ci σ o := c1.num (by unfold crtS; omega)
  have s1 : chgH (stS o) σ σ1 := c1.up fun x hx => by unfold crtS at hx; unfold stS; omega
  have O1 := hO.chg c1
  have w1 := s1.wr (show stS o o by unfold stS; omega) 6 ((p + 1) % 20)
  have O2 := hO.chg w1
  have w2 := w1.wr (show stS o o by unfold stS; omega) 5 (min 20 (((mU M).length : Int) + 1))
  have O3 := hO.chg w2
  have em : nrm (mnI 20 (((mU M).length : Int) + 1)) = min 20 (((mU M).length : Int) + 1) := by
    unfold mnI
    rw [nrm_i (z := 20) (by decide) (by decide), nrm_i (z := ((mU M).length : Int) + 1) (by omega) (by omega)]
    split
    · rw [nrm_i (by omega) (by omega)]; omega
    · rw [nrm_i (by decide) (by decide)]; omega
  have er : rmI (p + 1) 20 = (p + 1) % 20 := rmI_i (by omega) (by omega) (by decide) (by decide)
  have shO : ∃ g : Int → Option Nat, shp σ1 o = some (0, 23, g) := by obtain ⟨⟨g, h1, -⟩, -⟩ := O1; exact ⟨g, h1⟩
  obtain ⟨gO, hgO⟩ := shO
  have eo2 : ci (wr (wr σ1 o 6 ((p + 1) % 20)) o 5 (min 20 (((mU M).length : Int) + 1))) o = fu (fu (ci σ o) 6 ((p + 1) % 20)) 5 (min 20 (((mU M).length : Int) + 1)) := by
    rw [wr_ci (h := by rw [wr_shp]; exact hgO), wr_ci (h := hgO), eo]
  have ne : ∀ x : Nat, x ≠ o → (wr (wr σ1 o 6 ((p + 1) % 20)) o 5 (min 20 (((mU M).length : Int) + 1))).1 x = σ1.1 x := fun x hx => by rw [wr_ne _ _ _ hx, wr_ne _ _ _ hx]
  have cne : ∀ x : Nat, x ≠ o → ci (wr (wr σ1 o 6 ((p + 1) % 20)) o 5 (min 20 (((mU M).length : Int) + 1))) x = ci σ1 x := fun x hx => by rw [wr_cne _ _ _ hx, wr_cne _ _ _ hx]
  have c2 : chgH (fun x => x = o) σ1 (wr (wr σ1 o 6 ((p + 1) % 20)) o 5 (min 20 (((mU M).length : Int) + 1))) := ((chgH.rf (fun x => x = o) σ1).wr rfl _ _).wr rfl _ _
  refine ⟨_, ?_, ?_, w2⟩
  · unfold f_X0_keeps
    have g2 : ∀ {β : Type} (f : Int → Option β), (gI (wr σ1 o 6 ((p + 1) % 20)) 0 (some o) 5).bind f = f ((mU M).length : Int) := fun f => by
      rw [o_gI O2, wr_ci (h := hgO), fuN _ _ (by decide), eo, u3]
    rw [o_g9 hO, o_gI hO, u2, o_r108 hO u1.1 u1.2, o_g7 hO, c_ob hcp, bnP e1, o_gI O1, eo, u2, er, o_pI O1, g2, em, o_pI O2]
  · have hlk : ((mK M :: mU M).take 20).length = min 20 ((mU M).length + 1) := by rw [List.length_take, List.length_cons]
    have hZs : ∀ x, Z x → ¬ stS o x := hZ
    refine ⟨⟨O3, hx.same (agr_chg w2 hZs), hZ, (hK.same c1 (fun k hk h => by unfold crtS at h; omega) hX).same c2 (fun k hk h => by omega) hX, hX, hW⟩, ⟨(p + 1) % 20, by omega, by rw [eo2, fuN _ _ (by decide), fuE], ?_, fun j hj => ?_⟩, fun i i0 i1 => ?_, ?_, ?_, by rw [eo2, fuN _ _ (by decide), fuN _ _ (by decide)]; exact L⟩
    · rw [eo2, fuE]
      show _ = (((mK M :: mU M).take 20).length : Int)
      rw [hlk]
      omega
    · have hj : j < ((mK M :: mU M).take 20).length := hj
      rw [hlk] at hj
      have hj20 : j < 20 := by omega
      show Cat _ _ (mX M) (((mK M :: mU M).take 20).getD j (mK M))
      have eg : ((mK M :: mU M).take 20).getD j (mK M) = (mK M :: mU M).getD j (mK M) := by
        rw [List.getD_eq_getElem?_getD, List.getD_eq_getElem?_getD, List.getElem?_take_of_lt hj20]
      rw [eg]
      cases j with
      | zero =>
        rw [show (((p + 1) % 20 - 1 - ((0 : Nat) : Int)) % 20).toNat = p.toNat by omega]
        exact k1.same c2 (fun k hk h => by omega) hX
      | succ j =>
        have ej : (mK M :: mU M).getD (j + 1) (mK M) = (mU M).getD j (mK M) := rfl
        rw [ej, show (((p + 1) % 20 - 1 - ((j + 1 : Nat) : Int)) % 20) = (p - 1 - j) % 20 by omega]
        refine ((u4 j (by omega)).same c1 (fun k hk h => ?_) hX).same c2 (fun k hk h => by omega) hX
        unfold crtS at h
        omega
    · rw [cne (o + 251) (by omega), c1.num (a := o + 251) (by unfold crtS; omega)]
      exact ⟨(S i i0 i1).1, fun h => (((S i i0 i1).2 h).same c1 (fun k hk h => by unfold crtS at h; omega) hX).same c2 (fun k hk h => by omega) hX⟩
    · refine ⟨by rw [eo2, fuN _ _ (by decide), fuN _ _ (by decide)]; exact T.1, fun i i0 i1 => ?_⟩
      rw [cne (o + 273) (by omega), cne (o + 274) (by omega), cne (o + 275) (by omega), cne (o + 276) (by omega), c1.num (a := o + 273) (by unfold crtS; omega), c1.num (a := o + 274) (by unfold crtS; omega), c1.num (a := o + 275) (by unfold crtS; omega), c1.num (a := o + 276) (by unfold crtS; omega)]
      exact T.2 i i0 i1
    · refine ⟨by rw [cne (o + 2) (by omega), c1.num (a := o + 2) (by unfold crtS; omega)]; exact P.1, fun i i0 i1 => ?_⟩
      rw [cne (o + 4) (by omega), c1.num (a := o + 4) (by unfold crtS; omega)]
      exact P.2 i i0 i1
end
/-! ===== what calls do to a state ===== -/
def v_minutes (M : Mst) (n : Int) : Int := if 0 ≤ n ∧ n ≤ 299 - kMi (mK M) then kMi (mK M) + n else -1
def a_minutes (M : Mst) (n : Int) : Mst := if 0 < n ∧ n ≤ 299 - kMi (mK M) then mPush M (rn (mX M) n.toNat (mK M)) else M
abbrev g_go (M : Mst) (x y : Int) : Prop := (0 ≤ x ∧ x < xM (mX M)) ∧ 1 ≤ y ∧ y ≤ wys (mX M) (kW (mK M) x (kMi (mK M)))
def k_go (M : Mst) (x y : Int) : Crt := lks (mX M) (setW (mK M) x (kMi (mK M)) (thr1 (mX M) (kW (mK M) x (kMi (mK M))) y))
abbrev g_raise (M : Mst) (x y : Int) : Prop := (0 ≤ x ∧ x < xM (mX M)) ∧ (0 ≤ y ∧ y ≤ 20) ∧ ¬ kR (mK M) x (kMi (mK M)) = y
def k_raise (M : Mst) (x y : Int) : Crt := lks (mX M) (setR (mK M) x (kMi (mK M)) y)
abbrev g_carry (M : Mst) (x y : Int) : Prop := (0 ≤ x ∧ x < xK (mX M)) ∧ (0 ≤ y ∧ y < xR (mX M)) ∧ ¬ kH (mK M) x (kMi (mK M)) = y
def k_carry (M : Mst) (x y : Int) : Crt := lks (mX M) (setH (mK M) x (kMi (mK M)) y)
abbrev g_turn (M : Mst) (x y : Int) : Prop := (0 ≤ x ∧ x < xK (mX M)) ∧ ¬ kU (mK M) x (kMi (mK M)) = y
def k_turn (M : Mst) (x y : Int) : Crt := setU (mK M) x (kMi (mK M)) y
abbrev g_smash (M : Mst) (x : Int) : Prop := (0 ≤ x ∧ x < xK (mX M)) ∧ kB (mK M) x = 300
def k_smash (M : Mst) (x : Int) : Crt := setB (mK M) x (kMi (mK M)) (shw (mK M) x (kMi (mK M)))

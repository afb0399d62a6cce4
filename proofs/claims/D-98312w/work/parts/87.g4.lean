set_option maxRecDepth 100000
set_option maxHeartbeats 1000000
/-! ===== PURE: the component takes back, holds, is told ===== -/
def v_undo (M : Mst) : Int := match mU M with | [] => 0 | _ :: _ => 1
def a_undo (M : Mst) : Mst := match mU M with | [] => M | U :: l => mPut M U l
abbrev g_hold (x : Int) : Prop := 0 ≤ x ∧ x ≤ 2
def a_hold (M : Mst) (x : Int) : Mst := if g_hold x then (M.1, (fu (mHd M) x 1, fu (mSl M) x (mK M)), M.2.2) else M
abbrev g_restore (M : Mst) (x : Int) : Prop := (0 ≤ x ∧ x ≤ 2) ∧ mHd M x = 1
def a_restore (M : Mst) (x : Int) : Mst := if g_restore M x then mPut M (mSl M x) [] else M
abbrev g_tell (M : Mst) (x y z : Int) : Prop := (0 ≤ x ∧ x < xK (mX M)) ∧ (0 ≤ y ∧ y ≤ 99) ∧ (0 ≤ z ∧ z < xM (mX M)) ∧ ¬ (mT M).1 = 20
def tadd (T : Tld) (x y z b : Int) : Tld := (T.1 + 1, fu T.2.1 T.1 x, fu T.2.2.1 T.1 y, fu T.2.2.2.1 T.1 z, fu T.2.2.2.2 T.1 b)
def v_tell (M : Mst) (x y z : Int) : Int := if g_tell M x y z then (mT M).1 else -1
def a_tell (M : Mst) (x y z b : Int) : Mst := if g_tell M x y z then (M.1, M.2.1, tadd (mT M) x y z b, M.2.2.2) else M
def a_forget (M : Mst) : Mst := (M.1, M.2.1, (0, (mT M).2), M.2.2.2)
abbrev g_back (M : Mst) (x : Int) : Prop := 0 ≤ x ∧ x ≤ mTn M
def v_back (M : Mst) (x : Int) : Int := if g_back M x then mTn M - x else -1
def a_back (M : Mst) (x : Int) : Mst := if g_back M x then (M.1, M.2.1, M.2.2.1, (mTn M - x, mTp M), M.2.2.2.2) else M
section
variable {Z : Nat → Prop} {σ σ' τ : Hp} {o r : Nat} {X : Txt} {K : Crt} {M : Mst} {β : Type} {S : Nat → Prop}
theorem o_s2 (h : Osh σ o r) : ∃ g : Int → Option Nat, shp σ (o + 2) = some (2, 8, g) ∧ g 1 = some (o + 4) := by obtain ⟨-, -, ⟨g, h, -, h2, -⟩, -⟩ := h; exact ⟨g, h, h2⟩
theorem o_a2 (h : Osh σ o r) (k : Int) (f : Int → Option β) : (gI σ 2 (some (o + 2)) k).bind f = f (ci σ (o + 2) k) := by obtain ⟨g, e, -⟩ := o_s2 h; exact gI_b e k f
theorem o_w2 (h : Osh σ o r) (k v : Int) (f : Hp → Option β) : (pI σ 2 (some (o + 2)) k v).bind f = f (wr σ (o + 2) k v) := by obtain ⟨g, e, -⟩ := o_s2 h; exact pI_b e k v f
theorem o_t2 (h : Osh σ o r) (f : Option Nat → Option β) : (gR σ 2 (some (o + 2)) 1).bind f = f (some (o + 4)) := by obtain ⟨g, e, e2⟩ := o_s2 h; exact obP (by rw [gR_s e, e2]) f
theorem o_s0 (h : Osh σ o r) : ∃ g : Int → Option Nat, shp σ o = some (0, 23, g) := by obtain ⟨⟨g, h1, -⟩, -⟩ := h; exact ⟨g, h1⟩
theorem QI.st2 (I : QI Z σ o r X K) (c : chgH S σ τ) (h : ∀ x, S x → stS o x) (hn : ∀ x, S x → ¬ crtS (o + 14) x) : QI Z τ o r X K :=
  ⟨I.1.chg c, I.2.1.same (agr_chg c fun x hz hx => I.2.2.1 x hz (h x hx)), I.2.2.1, I.2.2.2.1.same c (fun k hk h => hn _ h (by unfold crtS; omega)) I.2.2.2.2.1, I.2.2.2.2⟩
/-- another court -/
theorem QI.crt2 (I : QI Z σ o r X K) (c : chgH S σ τ) (h : ∀ x, S x → stS o x) {K' : Crt} (hK : Cat τ (o + 14) X K') (hW : WfK X K') : QI Z τ o r X K' :=
  ⟨I.1.chg c, I.2.1.same (agr_chg c fun x hz hx => I.2.2.1 x hz (h x hx)), I.2.2.1, hK, I.2.2.2.2.1, hW⟩
theorem getD_any {l : List Crt} {j : Nat} (hj : j < l.length) (K K' : Crt) : l.getD j K' = l.getD j K := by
  rw [List.getD_eq_getElem?_getD, List.getD_eq_getElem?_getD, List.getElem?_eq_getElem hj]
  rfl
theorem UnC.fr {l : List Crt} (U : UnC σ o X K l) (c : chgH S σ τ) (h : ∀ x, S x → x < o + 277) (e5 : ci τ o 5 = ci σ o 5) (e6 : ci τ o 6 = ci σ o 6) (hX : WfX X) (K' : Crt) : UnC τ o X K' l := by
  obtain ⟨p, u1, u2, u3, u4⟩ := U
  refine ⟨p, u1, e6.trans u2, e5.trans u3, fun j hj => ?_⟩
  rw [getD_any hj K K']
  exact (u4 j hj).same c (fun k hk hs => by have := h _ hs; omega) hX
theorem SlC.fr {H : Int → Int} {L : Int → Crt} (U : SlC σ o X H L) (c : chgH S σ τ) (h : ∀ x, S x → x < o + 110 ∨ o + 252 ≤ x) (hX : WfX X) : SlC τ o X H L := by
  intro i i0 i1
  rw [c.num (a := o + 251) (fun hs => by have := h _ hs; omega)]
  exact ⟨(U i i0 i1).1, fun e => ((U i i0 i1).2 e).same c (fun k hk hs => by have := h _ hs; omega) hX⟩
theorem TlC.fr {T : Tld} (U : TlC σ o T) (c : chgH S σ τ) (h : ∀ x, S x → x < o + 273 ∨ o + 277 ≤ x) (e : ci τ o 18 = ci σ o 18) : TlC τ o T := by
  refine ⟨e.trans U.1, fun i i0 i1 => ?_⟩
  rw [c.num (a := o + 273) (fun hs => by have := h _ hs; omega), c.num (a := o + 274) (fun hs => by have := h _ hs; omega), c.num (a := o + 275) (fun hs => by have := h _ hs; omega), c.num (a := o + 276) (fun hs => by have := h _ hs; omega)]
  exact U.2 i i0 i1
theorem TpC.fr {n : Int} {f : Int → Int} (U : TpC σ o n f) (c : chgH S σ τ) (h : ∀ x, S x → x ≠ o + 2 ∧ x ≠ o + 4) : TpC τ o n f := by
  refine ⟨by rw [c.num (a := o + 2) (fun hs => (h _ hs).1 rfl)]; exact U.1, fun i i0 i1 => ?_⟩
  rw [c.num (a := o + 4) (fun hs => (h _ hs).2 rfl)]
  exact U.2 i i0 i1
theorem h_undo (C : CInv Z σ o r M) (hM : WfM M) : ∃ σ' : Hp, f_X0_undo σ o = some (v_undo M, σ') ∧ CInv Z σ' o r (a_undo M) ∧ chgH (stS o) σ σ' := by
  obtain ⟨I, U, S, T, P, L⟩ := C
  have C : CInv Z σ o r M := ⟨I, U, S, T, P, L⟩
  obtain ⟨p, u1, u2, u3, u4⟩ := U
  have hO := I.1
  have hX := I.2.2.2.2.1
  obtain ⟨gO, hgO⟩ := o_s0 hO
  unfold f_X0_undo v_undo a_undo
  rcases e : mU M with _ | ⟨U0, l⟩
  · rw [e] at u3
    refine ⟨σ, ?_, C, chgH.rf _ _⟩
    rw [o_gI hO, u3, if_neg (by decide)]
  · rw [e] at u3 u4
    have hl := hM.2.2.1.1
    have hok := hM.2.2.1.2.1 U0 (by rw [e]; exact List.mem_cons_self)
    rw [e] at hl
    have el : ((U0 :: l).length : Int) = (l.length : Int) + 1 := by rw [List.length_cons]; omega
    have hl2 : l.length + 1 ≤ 20 := hl
    rw [el] at u3
    have w1 := (chgH.rf (fun x => x = o ∨ crtS (o + 14) x) σ).wr (Or.inl rfl) 5 (l.length : Int)
    have w2 := w1.wr (a := o) (Or.inl rfl) 6 ((p + 19) % 20)
    have O1 := hO.chg w1
    have O2 := hO.chg w2
    have eo2 : ci (wr (wr σ o 5 (l.length : Int)) o 6 ((p + 19) % 20)) o = fu (fu (ci σ o) 5 (l.length : Int)) 6 ((p + 19) % 20) := by
      rw [wr_ci (h := by rw [wr_shp]; exact hgO), wr_ci (h := hgO)]
    have eo1 : ci (wr σ o 5 (l.length : Int)) o = fu (ci σ o) 5 (l.length : Int) := wr_ci (h := hgO) ..
    have c2 : chgH (fun x => x = o) σ (wr (wr σ o 5 (l.length : Int)) o 6 ((p + 19) % 20)) := ((chgH.rf (fun x => x = o) σ).wr rfl _ _).wr rfl _ _
    have hk0 := u4 0 (by rw [List.length_cons]; omega)
    have hk0 : Cat σ (o + 277 + 47 * ((p + 19) % 20).toNat) (mX M) U0 := by
      rw [show (p - 1 - ((0 : Nat) : Int)) % 20 = (p + 19) % 20 by omega] at hk0
      exact hk0
    have hcp := O2.undo (i := (p + 19) % 20) (by omega) (by omega)
    obtain ⟨σ1, e1, k1, c1⟩ := h_takes O2.court hcp (Or.inl (by omega)) (hk0.same c2 (fun k hk h => by omega) hX) hX hok.1
    have w3 := w2.tr (c1.up (fun x h => Or.inr h))
    have hst : ∀ x, x = o ∨ crtS (o + 14) x → stS o x := fun x h => by unfold stS; unfold crtS at h; omega
    have eo3 : ci σ1 o = fu (fu (ci σ o) 5 (l.length : Int)) 6 ((p + 19) % 20) := by rw [c1.num (by unfold crtS; omega), eo2]
    refine ⟨σ1, ?_, ⟨I.crt2 w3 hst k1 hok.1, ⟨(p + 19) % 20, by omega, by rw [eo3, fuE], by rw [eo3, fuN _ _ (by decide), fuE]; rfl, fun j hj => ?_⟩, S.fr w3 (fun x h => by unfold crtS at h; omega) hX, T.fr w3 (fun x h => by unfold crtS at h; omega) (by rw [eo3, fuN _ _ (by decide), fuN _ _ (by decide)]), P.fr w3 (fun x h => by unfold crtS at h; omega), by rw [eo3, fuN _ _ (by decide), fuN _ _ (by decide)]; exact L⟩, w3.up hst⟩
    · have g6 : ∀ {β : Type} (f : Int → Option β), (gI (wr σ o 5 (l.length : Int)) 0 (some o) 6).bind f = f p := fun f => by
        rw [o_gI O1, eo1, fuN _ _ (by decide), u2]
      have g6' : ∀ {β : Type} (f : Int → Option β), (gI (wr (wr σ o 5 (l.length : Int)) o 6 ((p + 19) % 20)) 0 (some o) 6).bind f = f ((p + 19) % 20) := fun f => by
        rw [o_gI O2, eo2, fuE]
      rw [o_gI hO, u3, nrm_i (by omega) (by omega), if_pos (by omega), o_gI hO, u3, nrm_i (by omega) (by omega), Int.add_sub_cancel, o_pI hO, g6, rmI_i (by omega) (by omega) (by decide) (by decide), show p + 20 - 1 = p + 19 by omega, o_pI O1, o_g7 O2, o_g9 O2, g6', o_r108 O2 (by omega) (by omega), c_ob O2.court, bnP e1]
    · have hj : j < l.length := hj
      have := u4 (j + 1) (by rw [List.length_cons]; omega)
      show Cat _ _ (mX M) (l.getD j _)
      rw [getD_any hj (mK M)]
      have e3 : (U0 :: l).getD (j + 1) (mK M) = l.getD j (mK M) := rfl
      rw [e3, show (p - 1 - ((j + 1 : Nat) : Int)) % 20 = ((p + 19) % 20 - 1 - (j : Int)) % 20 by omega] at this
      exact this.same w3 (fun k hk h => by unfold crtS at h; omega) hX
theorem h_hold (C : CInv Z σ o r M) {x : Int} (wx : wd x) : ∃ σ' : Hp, f_X0_hold σ o x = some (if g_hold x then 1 else 0, σ') ∧ CInv Z σ' o r (a_hold M x) ∧ chgH (stS o) σ σ' := by
  obtain ⟨I, U, S, T, P, L⟩ := C
  have C : CInv Z σ o r M := ⟨I, U, S, T, P, L⟩
  have hO := I.1
  have hX := I.2.2.2.2.1
  have hW := I.2.2.2.2.2
  unfold f_X0_hold a_hold
  by_cases G : g_hold x
  · rw [if_pos G, if_pos G]
    have G1 := G.1
    have G2 := G.2
    have hcp := hO.slot (i := x) (by omega) (by omega)
    obtain ⟨σ1, e1, k1, c1⟩ := h_takes hcp hO.court (Or.inr (by omega)) I.2.2.2.1 hX hW
    have O1 := hO.chg c1
    obtain ⟨g, hg⟩ := o_s251 O1
    have w1 := c1.up (T := fun y => y = o + 251 ∨ crtS (o + 110 + 47 * x.toNat) y) (fun y h => Or.inr h)
    have w2 := w1.wr (a := o + 251) (Or.inl rfl) x 1
    have hst : ∀ y, y = o + 251 ∨ crtS (o + 110 + 47 * x.toNat) y → stS o y := fun y h => by unfold stS; unfold crtS at h; omega
    have eo : ci (wr σ1 (o + 251) x 1) o = ci σ o := by rw [wr_cne _ _ _ (by omega), c1.num (by unfold crtS; omega)]
    have c2 : chgH (fun y => y = o + 251) σ1 (wr σ1 (o + 251) x 1) := (chgH.rf (fun y => y = o + 251) σ1).wr rfl _ _
    refine ⟨_, ?_, ⟨I.st2 w2 hst (fun y h => by unfold crtS at *; omega), U.fr w2 (fun y h => by unfold crtS at h; omega) (by rw [eo]) (by rw [eo]) hX _, fun i i0 i1 => ?_, T.fr w2 (fun y h => by unfold crtS at h; omega) (by rw [eo]), P.fr w2 (fun y h => by unfold crtS at h; omega), by rw [eo]; exact L⟩, w2.up hst⟩
    · rw [i_t G.1 G.2 wx.1 wx.2 (by decide) (by decide), if_pos (by decide), o_g10 hO, o_r109 hO (by omega) (by omega), o_g7 hO, c_ob hcp, bnP e1, o_g11 O1, show b1I 1 = 1 by decide, o_w251 O1 _ (by omega) (by omega)]
    · show ci _ (o + 251) i = fu (mHd M) x 1 i ∧ (fu (mHd M) x 1 i = 1 → Cat _ _ (mX M) (fu (mSl M) x (mK M) i))
      rw [wr_ci (h := hg)]
      by_cases ei : i = x
      · subst ei
        rw [fuE, fuE, fuE]
        exact ⟨rfl, fun _ => k1.same c2 (fun k hk h => by omega) hX⟩
      · rw [fuN _ _ ei, fuN _ _ ei, fuN _ _ ei, c1.num (a := o + 251) (by unfold crtS; omega)]
        exact ⟨(S i i0 i1).1, fun h => ((S i i0 i1).2 h).same w2 (fun k hk h => by unfold crtS at h; omega) hX⟩
  · rw [if_neg G, if_neg G]
    refine ⟨σ, ?_, C, chgH.rf _ _⟩
    rw [i_f (by omega) wx.1 wx.2 (by decide) (by decide) (by decide) (by decide), if_neg (by decide)]
theorem h_restore (C : CInv Z σ o r M) (hM : WfM M) {x : Int} (wx : wd x) : ∃ σ' : Hp, f_X0_restore σ o x = some (if g_restore M x then 1 else 0, σ') ∧ CInv Z σ' o r (a_restore M x) ∧ chgH (stS o) σ σ' := by
  obtain ⟨I, U, S, T, P, L⟩ := C
  have C : CInv Z σ o r M := ⟨I, U, S, T, P, L⟩
  have hO := I.1
  have hX := I.2.2.2.2.1
  unfold f_X0_restore a_restore
  by_cases G0 : 0 ≤ x ∧ x ≤ 2
  · have G1 := G0.1
    have G2 := G0.2
    have hS := S x (by omega) (by omega)
    have hH := (hM.2.2.2.1 x (by omega) (by omega))
    by_cases G3 : mHd M x = 1
    · rw [if_pos ⟨G0, G3⟩, if_pos ⟨G0, G3⟩]
      have hcp := hO.slot (i := x) (by omega) (by omega)
      have hok := hH.2 G3
      obtain ⟨σ1, e1, k1, c1⟩ := h_takes hO.court hcp (Or.inl (by omega)) (hS.2 G3) hX hok.1
      have O1 := hO.chg c1
      obtain ⟨g, hg⟩ := o_s0 O1
      have w1 := c1.up (T := fun y => y = o ∨ crtS (o + 14) y) (fun y h => Or.inr h)
      have w2 := w1.wr (a := o) (Or.inl rfl) 5 0
      have hst : ∀ y, y = o ∨ crtS (o + 14) y → stS o y := fun y h => by unfold stS; unfold crtS at h; omega
      have eo : ci (wr σ1 o 5 0) o = fu (ci σ o) 5 0 := by rw [wr_ci (h := hg), c1.num (by unfold crtS; omega)]
      have c2 : chgH (fun y => y = o) σ1 (wr σ1 o 5 0) := (chgH.rf (fun y => y = o) σ1).wr rfl _ _
      refine ⟨_, ?_, ⟨I.crt2 w2 hst (k1.same c2 (fun k hk h => by omega) hX) hok.1, ?_, S.fr w2 (fun y h => by unfold crtS at h; omega) hX, T.fr w2 (fun y h => by unfold crtS at h; omega) (by rw [eo, fuN _ _ (by decide)]), P.fr w2 (fun y h => by unfold crtS at h; omega), by rw [eo, fuN _ _ (by decide)]; exact L⟩, w2.up hst⟩
      · rw [i_t G0.1 G0.2 wx.1 wx.2 (by decide) (by decide), if_neg (by decide), o_g11 hO, o_a251 hO (by omega) (by omega), hS.1, G3, if_pos (by decide), o_g7 hO, o_g10 hO, o_r109 hO (by omega) (by omega), c_ob hO.court, bnP e1, o_pI O1]
      · obtain ⟨p, u1, u2, -⟩ := U
        exact ⟨p, u1, by rw [eo, fuN _ _ (by decide)]; exact u2, by rw [eo, fuE]; rfl, fun j hj => absurd hj (Nat.not_lt_zero j)⟩
    · rw [if_neg (fun h => G3 h.2), if_neg (fun h => G3 h.2)]
      refine ⟨σ, ?_, C, chgH.rf _ _⟩
      have h0 : mHd M x = 0 := hH.1.resolve_right G3
      rw [i_t G0.1 G0.2 wx.1 wx.2 (by decide) (by decide), if_neg (by decide), o_g11 hO, o_a251 hO (by omega) (by omega), hS.1, h0, if_neg (by decide)]
  · rw [if_neg (fun h => G0 h.1), if_neg (fun h => G0 h.1)]
    refine ⟨σ, ?_, C, chgH.rf _ _⟩
    rw [i_f (by omega) wx.1 wx.2 (by decide) (by decide) (by decide) (by decide), if_pos (by decide)]
theorem h_forget (C : CInv Z σ o r M) : ∃ σ' : Hp, f_X0_forget σ o = some ((mT M).1, σ') ∧ CInv Z σ' o r (a_forget M) ∧ chgH (stS o) σ σ' := by
  obtain ⟨I, U, S, T, P, L⟩ := C
  have hO := I.1
  have hX := I.2.2.2.2.1
  obtain ⟨g, hg⟩ := o_s0 hO
  have w := (chgH.rf (fun x => x = o) σ).wr (a := o) rfl 18 0
  have hst : ∀ y, y = o → stS o y := fun y h => by unfold stS; omega
  have eo : ci (wr σ o 18 0) o = fu (ci σ o) 18 0 := wr_ci (h := hg) ..
  refine ⟨_, ?_, ⟨I.st2 w hst (fun y h => by unfold crtS; omega), U.fr w (fun y h => by omega) (by rw [eo, fuN _ _ (by decide)]) (by rw [eo, fuN _ _ (by decide)]) hX _, S.fr w (fun y h => by omega) hX, ⟨by rw [eo, fuE]; rfl, fun i i0 i1 => ?_⟩, P.fr w (fun y h => by omega), by rw [eo, fuN _ _ (by decide)]; exact L⟩, w.up hst⟩
  · unfold f_X0_forget
    rw [o_gI hO, o_pI hO, T.1]
  · have i1 : i < 0 := i1
    omega
theorem h_place (C : CInv Z σ o r M) : f_X0_place σ o = some (mPl M, σ) := by
  unfold f_X0_place
  rw [o_gI C.1.1, C.2.2.2.2.2]
theorem h_back (C : CInv Z σ o r M) (hM : WfM M) {x : Int} (wx : wd x) : ∃ σ' : Hp, f_X0_back σ o x = some (v_back M x, σ') ∧ CInv Z σ' o r (a_back M x) ∧ chgH (stS o) σ σ' := by
  obtain ⟨I, U, S, T, P, L⟩ := C
  have C : CInv Z σ o r M := ⟨I, U, S, T, P, L⟩
  have hO := I.1
  have hX := I.2.2.2.2.1
  have hn := hM.2.2.2.2.2.1.1
  have wx1 := wx.1
  have wx2 := wx.2
  obtain ⟨g, hg, -⟩ := o_s2 hO
  unfold f_X0_back v_back a_back
  by_cases c1 : 0 ≤ x
  · by_cases c2 : x ≤ mTn M
    · have G : g_back M x := ⟨c1, c2⟩
      rw [if_pos G, if_pos G]
      have w := (chgH.rf (fun y => y = o + 2) σ).wr (a := o + 2) rfl 2 (mTn M - x)
      have hst : ∀ y, y = o + 2 → stS o y := fun y h => by unfold stS; omega
      have O1 := hO.chg w
      have eo : ci (wr σ (o + 2) 2 (mTn M - x)) o = ci σ o := wr_cne _ _ _ (by omega)
      have e2 : ci (wr σ (o + 2) 2 (mTn M - x)) (o + 2) 2 = mTn M - x := by rw [wr_ci (h := hg), fuE]
      refine ⟨_, ?_, ⟨I.st2 w hst (fun y h => by unfold crtS; omega), U.fr w (fun y h => by omega) (by rw [eo]) (by rw [eo]) hX _, S.fr w (fun y h => by omega) hX, T.fr w (fun y h => by omega) (by rw [eo]), ⟨e2, fun i i0 i1 => ?_⟩, by rw [eo]; exact L⟩, w.up hst⟩
      · rw [nrm_i wx1 wx2, if_neg (by omega), o_g1 hO, o_a2 hO, P.1, nrm_i (z := mTn M) (by omega) (by omega), if_pos c2, o_g1 hO, o_a2 hO, P.1, nrm_i (by omega) (by omega), o_w2 hO, o_g1 O1, o_a2 O1, e2]
      · have i1 : i < mTn M - x := i1
        rw [wr_cne _ _ _ (by omega)]
        exact P.2 i i0 (by omega)
    · have G : ¬ g_back M x := fun h => c2 h.2
      rw [if_neg G, if_neg G]
      refine ⟨σ, ?_, C, chgH.rf _ _⟩
      rw [nrm_i wx1 wx2, if_neg (by omega), o_g1 hO, o_a2 hO, P.1, nrm_i (z := mTn M) (by omega) (by omega), if_neg c2]
  · have G : ¬ g_back M x := fun h => c1 h.1
    rw [if_neg G, if_neg G]
    refine ⟨σ, ?_, C, chgH.rf _ _⟩
    rw [nrm_i wx1 wx2, if_pos (by omega)]
theorem h_tell (C : CInv Z σ o r M) (hM : WfM M) {x y z b : Int} (wx : wd x) (wy : wd y) (wz : wd z) (hb : b = 0 ∨ b = 1) : ∃ σ' : Hp, f_X0_tell σ o x y z b = some (v_tell M x y z, σ') ∧ CInv Z σ' o r (a_tell M x y z b) ∧ chgH (stS o) σ σ' := by
  obtain ⟨I, U, S, T, P, L⟩ := C
  have C : CInv Z σ o r M := ⟨I, U, S, T, P, L⟩
  have hO := I.1
  have hX := I.2.2.2.2.1
  have hT := hM.2.2.2.2.1.1
  have wx1 := wx.1
  have wx2 := wx.2
  have wy1 := wy.1
  have wy2 := wy.2
  have wz1 := wz.1
  have wz2 := wz.2
  have n0 := hX.2.2.1
  have n1 := hX.2.2.2.1
  unfold v_tell a_tell
  by_cases G : g_tell M x y z
  · rw [if_pos G, if_pos G]
    obtain ⟨c1, c2, c3, c4⟩ := G
    have eb : b1I b = b := by rcases hb with h | h <;> rw [h] <;> decide
    have w1 := (chgH.rf (fun y => y = o ∨ (o + 273 ≤ y ∧ y < o + 277)) σ).wr (a := o + 273) (Or.inr (by omega)) (mT M).1 x
    have w2 := w1.wr (a := o + 274) (Or.inr (by omega)) (mT M).1 y
    have w3 := w2.wr (a := o + 275) (Or.inr (by omega)) (mT M).1 z
    have w4 := w3.wr (a := o + 276) (Or.inr (by omega)) (mT M).1 b
    have w5 := w4.wr (a := o) (Or.inl rfl) 18 ((mT M).1 + 1)
    have O1 := hO.chg w1
    have O2 := hO.chg w2
    have O3 := hO.chg w3
    have O4 := hO.chg w4
    have O5 := hO.chg w5
    obtain ⟨g0, hg0⟩ := o_s0 O4
    obtain ⟨g1, hg1⟩ := o_s273 hO
    obtain ⟨g2, hg2⟩ := o_s274 O1
    obtain ⟨g3, hg3⟩ := o_s275 O2
    obtain ⟨g4, hg4⟩ := o_s276 O3
    have t0 := T.1
    have hst : ∀ y, (y = o ∨ (o + 273 ≤ y ∧ y < o + 277)) → stS o y := fun y h => by unfold stS; omega
    have e1 : ci (wr σ (o + 273) (mT M).1 x) o = ci σ o := wr_cne _ _ _ (by omega)
    have e2 : ci (wr (wr σ (o + 273) (mT M).1 x) (o + 274) (mT M).1 y) o = ci σ o := by rw [wr_cne _ _ _ (by omega), e1]
    have e3 : ci (wr (wr (wr σ (o + 273) (mT M).1 x) (o + 274) (mT M).1 y) (o + 275) (mT M).1 z) o = ci σ o := by rw [wr_cne _ _ _ (by omega), e2]
    have e4 : ci (wr (wr (wr (wr σ (o + 273) (mT M).1 x) (o + 274) (mT M).1 y) (o + 275) (mT M).1 z) (o + 276) (mT M).1 b) o = ci σ o := by rw [wr_cne _ _ _ (by omega), e3]
    have e5 : ci (wr (wr (wr (wr (wr σ (o + 273) (mT M).1 x) (o + 274) (mT M).1 y) (o + 275) (mT M).1 z) (o + 276) (mT M).1 b) o 18 ((mT M).1 + 1)) o = fu (ci σ o) 18 ((mT M).1 + 1) := by rw [wr_ci (h := hg0), e4]
    refine ⟨_, ?_, ⟨I.st2 w5 hst (fun y h => by unfold crtS; omega), U.fr w5 (fun y h => by omega) (by rw [e5, fuN _ _ (by decide)]) (by rw [e5, fuN _ _ (by decide)]) hX _, S.fr w5 (fun y h => by omega) hX, ⟨by rw [e5, fuE]; rfl, fun i i0 i1 => ?_⟩, P.fr w5 (fun y h => by omega), by rw [e5, fuN _ _ (by decide)]; exact L⟩, w5.up hst⟩
    · unfold f_X0_tell
      rw [o_rcv hO, mir_t I c1.1 c1.2, if_neg (by decide), i_t c2.1 c2.2 wy1 wy2 (by decide) (by decide), if_neg (by decide), o_rcv hO, man_t I c3.1 c3.2, if_neg (by decide), o_gI hO, t0, nrm_i (z := (mT M).1) (by omega) (by omega), nrm_i (z := 20) (by decide) (by decide), if_pos c4, o_g19 hO, o_gI hO, t0, nrm_i (z := x) (by omega) (by omega), o_w273 hO _ (by omega) (by omega), o_g20 O1, o_gI O1, e1, t0, nrm_i (z := y) (by omega) (by omega), o_w274 O1 _ (by omega) (by omega), o_g21 O2, o_gI O2, e2, t0, nrm_i (z := z) (by omega) (by omega), o_w275 O2 _ (by omega) (by omega), o_g22 O3, o_gI O3, e3, t0, eb, o_w276 O3 _ (by omega) (by omega), o_gI O4, e4, t0, nrm_i (z := (mT M).1 + 1) (by omega) (by omega), o_pI O4, o_gI O5, e5, fuE, Int.add_sub_cancel, nrm_i (z := (mT M).1) (by omega) (by omega)]
    · have i1 : i < (mT M).1 + 1 := i1
      show _ = fu (mT M).2.1 (mT M).1 x i ∧ _ = fu (mT M).2.2.1 (mT M).1 y i ∧ _ = fu (mT M).2.2.2.1 (mT M).1 z i ∧ _ = fu (mT M).2.2.2.2 (mT M).1 b i
      rw [wr_cne (b := o + 273) _ _ _ (by omega), wr_cne (b := o + 273) _ _ _ (by omega), wr_cne (b := o + 273) _ _ _ (by omega), wr_cne (b := o + 273) _ _ _ (by omega), wr_ci (h := hg1), wr_cne (b := o + 274) _ _ _ (by omega), wr_cne (b := o + 274) _ _ _ (by omega), wr_cne (b := o + 274) _ _ _ (by omega), wr_ci (h := hg2), wr_cne (b := o + 274) _ _ _ (by omega), wr_cne (b := o + 275) _ _ _ (by omega), wr_cne (b := o + 275) _ _ _ (by omega), wr_ci (h := hg3), wr_cne (b := o + 275) _ _ _ (by omega), wr_cne (b := o + 275) _ _ _ (by omega), wr_cne (b := o + 276) _ _ _ (by omega), wr_ci (h := hg4), wr_cne (b := o + 276) _ _ _ (by omega), wr_cne (b := o + 276) _ _ _ (by omega), wr_cne (b := o + 276) _ _ _ (by omega)]
      by_cases ei : i = (mT M).1
      · subst ei
        rw [fuE, fuE, fuE, fuE, fuE, fuE, fuE, fuE]
        exact ⟨rfl, rfl, rfl, rfl⟩
      · rw [fuN _ _ ei, fuN _ _ ei, fuN _ _ ei, fuN _ _ ei, fuN _ _ ei, fuN _ _ ei, fuN _ _ ei, fuN _ _ ei]
        exact T.2 i i0 (by omega)
  · rw [if_neg G, if_neg G]
    refine ⟨σ, ?_, C, chgH.rf _ _⟩
    have t0 := T.1
    unfold f_X0_tell
    by_cases c1 : 0 ≤ x ∧ x < xK (mX M)
    · by_cases c2 : 0 ≤ y ∧ y ≤ 99
      · by_cases c3 : 0 ≤ z ∧ z < xM (mX M)
        · have c4 : (mT M).1 = 20 := Classical.byContradiction fun h => G ⟨c1, c2, c3, h⟩
          rw [o_rcv hO, mir_t I c1.1 c1.2, if_neg (by decide), i_t c2.1 c2.2 wy1 wy2 (by decide) (by decide), if_neg (by decide), o_rcv hO, man_t I c3.1 c3.2, if_neg (by decide), o_gI hO, t0, c4, if_neg (by decide)]
        · rw [o_rcv hO, mir_t I c1.1 c1.2, if_neg (by decide), i_t c2.1 c2.2 wy1 wy2 (by decide) (by decide), if_neg (by decide), o_rcv hO, man_f I (by omega) wz1 wz2, if_pos (by decide)]
      · rw [o_rcv hO, mir_t I c1.1 c1.2, if_neg (by decide), i_f (by omega) wy1 wy2 (by decide) (by decide) (by decide) (by decide), if_pos (by decide)]
    · rw [o_rcv hO, mir_f I (by omega) wx1 wx2, if_pos (by decide)]
end

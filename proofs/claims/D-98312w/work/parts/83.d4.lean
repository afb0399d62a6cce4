set_option maxRecDepth 100000
set_option maxHeartbeats 4000000
/-! ===== PURE: how far, as the twin fills it: layer by layer ===== -/
def bfS (A : Int → Bool) (n a b : Int) (g : Int → Int) : Int → Int := if g a = n ∧ g b < 0 ∧ A b = true then fu g b (n + 1) else g
def bfD (X : Txt) (A : Int → Bool) (n : Nat) (d : Nat) (g : Int → Int) : Int → Int := bfS A n (xT X d) (xF X d) (bfS A n (xF X d) (xT X d) g)
def bfL (X : Txt) (A : Int → Bool) (n : Nat) (g : Int → Int) : Int → Int := itr (bfD X A n) (xD X).toNat g
def dT (X : Txt) (A : Int → Bool) (fr r : Int) : Int := match dO X A fr r with
  | some n => n
  | none => -1
section
variable {X : Txt} {A : Int → Bool} {fr : Int}
def dst (X : Txt) (A : Int → Bool) (fr : Int) (m : Nat) (r : Int) : Prop := Rb X A fr m r = true ∧ ∀ q : Nat, q < m → Rb X A fr q r = false
def JnF (X : Txt) (A : Int → Bool) (fr : Int) (n : Nat) (g : Int → Int) : Prop := ∀ r : Int, (0 ≤ g r → g r ≤ n + 1 ∧ dst X A fr (g r).toNat r) ∧ (g r < 0 → g r = -1 ∧ Rb X A fr n r = false)
def InF (X : Txt) (A : Int → Bool) (fr : Int) (n : Nat) (g : Int → Int) : Prop := ∀ r : Int, (0 ≤ g r → g r ≤ n ∧ dst X A fr (g r).toNat r) ∧ (g r < 0 → g r = -1 ∧ Rb X A fr n r = false)
theorem bfS_1 {n a b : Int} {g : Int → Int} {x : Int} (h : 0 ≤ g x) : bfS A n a b g x = g x := by
  unfold bfS
  split
  · next c =>
    rw [fuN _ _ (fun e => by rw [e] at h; omega)]
  · rfl
theorem bfS_2 {n a b : Int} {g : Int → Int} {x : Int} (h : bfS A n a b g x = n) : g x = n := by
  unfold bfS at h
  split at h
  · next c =>
    by_cases e : x = b
    · rw [e, fuE] at h; omega
    · rw [fuN _ _ e] at h; exact h
  · exact h
theorem bfS_3 {n a b : Int} (hn : 0 ≤ n) {g : Int → Int} (h : bfS A n a b g a = n) (hA : A b = true) : 0 ≤ bfS A n a b g b := by
  have h2 := bfS_2 h
  unfold bfS
  split
  · rw [fuE]; omega
  · next c =>
    by_cases d : g b < 0
    · exact absurd ⟨h2, d, hA⟩ c
    · omega
theorem bfS_J (hX : WfX X) {n : Nat} {a b : Int} (hab : adj X a b = true) {g : Int → Int} (h : JnF X A fr n g) : JnF X A fr n (bfS A n a b g) := by
  intro r
  unfold bfS
  split
  · next c =>
    by_cases e : r = b
    · rw [e, fuE]
      have ha := (h a).1 (by omega)
      have hb := (h b).2 c.2.1
      rw [c.1] at ha
      have hR : Rb X A fr n a = true := by have := ha.2.1; rw [show ((n : Int)).toNat = n by omega] at this; exact this
      refine ⟨fun _ => ⟨Int.le_refl _, ?_, ?_⟩, fun h => by omega⟩
      · rw [show ((n : Int) + 1).toNat = n + 1 by omega]
        exact Rb_go hX hR hab c.2.2
      · intro q hq
        cases hc : Rb X A fr q b with
        | false => rfl
        | true => rw [Rb_le (show q ≤ n by omega) hc] at hb; exact absurd hb.2 (by decide)
    · rw [fuN _ _ e]; exact h r
  · exact h r
theorem bfL_in (hX : WfX X) {n : Nat} {g : Int → Int} (h : InF X A fr n g) : InF X A fr (n + 1) (bfL X A n g) := by
  have aD := hX.2.1
  have hJ0 : JnF X A fr n g := fun r => ⟨fun h1 => ⟨by have := ((h r).1 h1).1; omega, ((h r).1 h1).2⟩, (h r).2⟩
  have key : ∀ i : Nat, (i : Int) ≤ xD X → JnF X A fr n (itr (bfD X A n) i g) ∧ (∀ x : Int, 0 ≤ g x → itr (bfD X A n) i g x = g x) ∧ ∀ d : Nat, d < i → (itr (bfD X A n) i g (xF X d) = n → A (xT X d) = true → 0 ≤ itr (bfD X A n) i g (xT X d)) ∧ (itr (bfD X A n) i g (xT X d) = n → A (xF X d) = true → 0 ≤ itr (bfD X A n) i g (xF X d)) := by
    intro i
    induction i with
    | zero => intro _; exact ⟨hJ0, fun _ _ => rfl, fun d hd => by omega⟩
    | succ i ih =>
      intro hi
      obtain ⟨i1, i2, i3⟩ := ih (by omega)
      have e : itr (bfD X A n) (i + 1) g = bfD X A n i (itr (bfD X A n) i g) := rfl
      rw [e]
      generalize itr (bfD X A n) i g = f at i1 i2 i3
      have ad1 : adj X (xF X i) (xT X i) = true := (adj_iff hX).mpr ⟨i, by omega, Or.inl ⟨rfl, rfl⟩⟩
      have ad2 : adj X (xT X i) (xF X i) = true := adj_sym hX ad1
      have m1 : ∀ x : Int, 0 ≤ f x → bfD X A n i f x = f x := fun x hx => by
        unfold bfD
        rw [bfS_1 (by rw [bfS_1 hx]; exact hx), bfS_1 hx]
      have m2 : ∀ x : Int, bfD X A n i f x = n → f x = n := fun x hx => bfS_2 (bfS_2 hx)
      have m5 : ∀ x : Int, 0 ≤ bfS A n (xF X i) (xT X i) f x → bfD X A n i f x = bfS A n (xF X i) (xT X i) f x := fun x hx => bfS_1 hx
      refine ⟨bfS_J hX ad2 (bfS_J hX ad1 i1), fun x hx => by rw [m1 x (by rw [i2 x hx]; exact hx), i2 x hx], fun d hd => ?_⟩
      by_cases c : d = i
      · subst c
        refine ⟨fun h1 h2 => ?_, fun h1 h2 => ?_⟩
        · have g1 : bfS A n (xF X d) (xT X d) f (xF X d) = n := bfS_2 h1
          have := bfS_3 (by omega) g1 h2
          rw [m5 _ this]; exact this
        · exact bfS_3 (by omega) h1 h2
      · have i3d := i3 d (by omega)
        refine ⟨fun h1 h2 => ?_, fun h1 h2 => ?_⟩
        · have := i3d.1 (m2 _ h1) h2
          rw [m1 _ this]; exact this
        · have := i3d.2 (m2 _ h1) h2
          rw [m1 _ this]; exact this
  obtain ⟨k1, k2, k3⟩ := key (xD X).toNat (by omega)
  have e : bfL X A n g = itr (bfD X A n) (xD X).toNat g := rfl
  rw [e]
  generalize itr (bfD X A n) (xD X).toNat g = f at k1 k2 k3
  intro r
  refine ⟨fun h1 => ⟨by have := ((k1 r).1 h1).1; omega, ((k1 r).1 h1).2⟩, fun h1 => ⟨((k1 r).2 h1).1, ?_⟩⟩
  have hno := ((k1 r).2 h1).2
  cases hc : Rb X A fr (n + 1) r with
  | false => rfl
  | true =>
    exfalso
    obtain ⟨hA, b, hb, hR⟩ := Rb_from hc hno
    -- b is at n
    have hb0 : 0 ≤ f b := by
      by_cases c : f b < 0
      · have := ((k1 b).2 c).2
        rw [hR] at this; cases this
      · omega
    have hbd := ((k1 b).1 hb0).2
    have hbn : f b = n := by
      have h2 := hbd.2 n
      by_cases c : n < (f b).toNat
      · rw [h2 c] at hR; cases hR
      · by_cases d : (f b).toNat < n
        · exfalso
          have := Rb_go hX hbd.1 hb hA
          rw [Rb_le (show (f b).toNat + 1 ≤ n by omega) this] at hno
          cases hno
        · omega
    obtain ⟨d, hd1, hd2⟩ := (adj_iff hX).mp hb
    have k3d := k3 d (by omega)
    rcases hd2 with ⟨x1, x2⟩ | ⟨x1, x2⟩
    · have := k3d.1 (by rw [x1]; exact hbn) (by rw [x2]; exact hA)
      rw [x2] at this
      omega
    · have := k3d.2 (by rw [x1]; exact hbn) (by rw [x2]; exact hA)
      rw [x2] at this
      omega
def bf0 (A : Int → Bool) (fr : Int) : Int → Int := if A fr = true then fu (fun _ => -1) fr 0 else fun _ => -1
theorem bf0_in : InF X A fr 0 (bf0 A fr) := by
  intro r
  unfold bf0
  split
  · next h =>
    by_cases e : r = fr
    · rw [e, fuE]
      refine ⟨fun _ => ⟨Int.le_refl _, ?_, fun q hq => ?_⟩, fun h => absurd h (by decide)⟩
      · show (decide (fr = fr) && A fr) = true
        rw [h]; simp
      · exact absurd hq (by show ¬ q < 0; omega)
    · rw [fuN _ _ e]
      refine ⟨fun h => absurd h (show ¬ (0 : Int) ≤ -1 by decide), fun _ => ⟨rfl, ?_⟩⟩
      show (decide (r = fr) && A fr) = false
      simp [e]
  · next h =>
    refine ⟨fun h => absurd h (show ¬ (0 : Int) ≤ -1 by decide), fun _ => ⟨rfl, ?_⟩⟩
    show (decide (r = fr) && A fr) = false
    simp [h]
theorem bf_eq (hX : WfX X) (r : Int) : itr (bfL X A) 8 (bf0 A fr) r = dT X A fr r := by
  have key : ∀ n : Nat, InF X A fr n (itr (bfL X A) n (bf0 A fr)) := by
    intro n
    induction n with
    | zero => exact bf0_in
    | succ n ih => exact bfL_in hX ih
  have h := key 8 r
  unfold dT
  generalize itr (bfL X A) 8 (bf0 A fr) = g at h
  by_cases c : 0 ≤ g r
  · obtain ⟨h1, h2⟩ := h.1 c
    rw [dO_some hX h2.1 h2.2 (by omega)]
    show g r = (((g r).toNat : Nat) : Int)
    omega
  · obtain ⟨h1, h2⟩ := h.2 (by omega)
    rw [dO_none hX h2]
    exact h1
/-- nothing is allowed: nothing is reached -/
theorem dT_no (hA : A fr = false) (r : Int) : dT X A fr r = -1 := by
  have key : ∀ n : Nat, ∀ r : Int, Rb X A fr n r = false := by
    intro n
    induction n with
    | zero => intro r; show (decide (r = fr) && A fr) = false; rw [hA, Bool.and_false]
    | succ n ih =>
      intro r
      rw [Rb_s, ih r, Bool.false_or]
      have : anyN (fun b => adj X b r && Rb X A fr n b) 8 = false := anyN_f.mpr fun k _ => by rw [ih, Bool.and_false]
      rw [this, Bool.and_false]
  unfold dT dO
  rw [fnd_n.mpr fun k _ _ => key k r]
end
section
variable {s : TW} {X : Txt} {K : Crt} {β : Type} {fr : Int}
theorem t_fillsFar (hX : WfX X) (hs : RepX s X) {w : Nat} (hw : w < 256) (hf : 0 ≤ fr ∧ fr < xR X) : ∃ s' : TW, f_X8_fillsFar s fr (w : Int) = some ((), s') ∧ (∀ r : Int, 0 ≤ r → r < 8 → s'.2 66 r = dT X (fun x => w.testBit x.toNat) fr r) ∧ chg [66] [] s s' := by
  have a0 := hX.1
  have aD := hX.2.1
  unfold f_X8_fillsFar
  -- the start
  have beg : ∃ s' : TW, f_X8_fillsFar_L2 FU s fr (w : Int) 0 (fun s3 x1 x2 => (if ¬ nrm (anI (srI x2 x1) 1) = 0 then ((ts s3 66 x1 0).bind fun s4 => f_X8_fillsFar_L39 FU s4 x2 0 (fun s24 => some ((), s24))) else (some ((), s3)))) = (if ¬ nrm (anI (srI (w : Int) fr) 1) = 0 then ((ts s' 66 fr 0).bind fun s4 => f_X8_fillsFar_L39 FU s4 (w : Int) 0 (fun s24 => some ((), s24))) else (some ((), s'))) ∧ (∀ r : Int, 0 ≤ r → r < 8 → s'.2 66 r = -1) ∧ chg [66] [] s s' := by
    refine loop (S := TW × Int) (fun fl z => f_X8_fillsFar_L2 fl z.1 fr (w : Int) z.2 (fun s3 x1 x2 => (if ¬ nrm (anI (srI x2 x1) 1) = 0 then ((ts s3 66 x1 0).bind fun s4 => f_X8_fillsFar_L39 FU s4 x2 0 (fun s24 => some ((), s24))) else (some ((), s3))))) (fun o => ∃ s' : TW, o = (if ¬ nrm (anI (srI (w : Int) fr) 1) = 0 then ((ts s' 66 fr 0).bind fun s4 => f_X8_fillsFar_L39 FU s4 (w : Int) 0 (fun s24 => some ((), s24))) else (some ((), s'))) ∧ (∀ r : Int, 0 ≤ r → r < 8 → s'.2 66 r = -1) ∧ chg [66] [] s s')
      (fun i z => z.2 = (i : Int) ∧ (∀ r : Int, 0 ≤ r → r < i → z.1.2 66 r = -1) ∧ chg [66] [] s z.1) 8 ?_ ?_ 8 0 FU (s, 0) rfl (by decide) ⟨rfl, fun _ _ h => by omega, chg.rf _ _ _⟩
    · rintro fl i ⟨τ, x⟩ hi ⟨rfl, hy, cy⟩
      dsimp only at hy cy ⊢
      right
      refine ⟨(tst τ 66 i (-1), ((i + 1 : Nat) : Int)), ?_, rfl, ?_, cy.ts (by decide) _ _⟩
      · rw [f_X8_fillsFar_L2, nrm_i (z := 8) (by decide) (by decide), nrm_i (by omega) (by omega), if_neg (by omega), sb66 (by omega) (by omega)]
        rfl
      · intro r r0 r1
        dsimp only
        rw [tst_eq]
        by_cases e : r = i
        · rw [e, fuE]
        · rw [fuN _ _ e]; exact hy r r0 (by omega)
    · rintro fl ⟨τ, x⟩ ⟨rfl, hy, cy⟩
      dsimp only at hy cy ⊢
      refine ⟨τ, ?_, fun r r0 r1 => hy r r0 (by omega), cy⟩
      rw [f_X8_fillsFar_L2, if_pos (by decide)]
  obtain ⟨s1, e1, h1, c1⟩ := beg
  rw [e1, srb hf.1 (by omega) hw]
  by_cases hA : w.testBit fr.toNat = true
  · rw [if_pos hA, if_pos (by decide), sb66 (by omega) (by omega)]
    have h2 : ∀ r : Int, 0 ≤ r → r < 8 → (tst s1 66 fr 0).2 66 r = bf0 (fun x => w.testBit x.toNat) fr r := by
      intro r r0 r1
      unfold bf0
      rw [tst_eq, if_pos hA]
      by_cases e : r = fr
      · rw [e, fuE, fuE]
      · rw [fuN _ _ e, fuN _ _ e]; exact h1 r r0 r1
    have c2 : chg [66] [] s (tst s1 66 fr 0) := c1.ts (by decide) _ _
    generalize tst s1 66 fr 0 = s2 at h2 c2
    have vals : ∀ n : Nat, ∀ r : Int, -1 ≤ itr (bfL X (fun x => w.testBit x.toNat)) n (bf0 (fun x => w.testBit x.toNat) fr) r ∧ itr (bfL X (fun x => w.testBit x.toNat)) n (bf0 (fun x => w.testBit x.toNat) fr) r ≤ n := by
      intro n
      have : InF X (fun x => w.testBit x.toNat) fr n (itr (bfL X (fun x => w.testBit x.toNat)) n (bf0 (fun x => w.testBit x.toNat) fr)) := by
        induction n with
        | zero => exact bf0_in
        | succ n ih => exact bfL_in hX ih
      intro r
      have h := this r
      by_cases c : 0 ≤ itr (bfL X (fun x => w.testBit x.toNat)) n (bf0 (fun x => w.testBit x.toNat) fr) r
      · have := (h.1 c).1; omega
      · have := (h.2 (by omega)).1; omega
    refine loop (S := TW × Int) (fun fl z => f_X8_fillsFar_L39 fl z.1 (w : Int) z.2 (fun s24 => some ((), s24))) (fun o => ∃ s' : TW, o = some ((), s') ∧ (∀ r : Int, 0 ≤ r → r < 8 → s'.2 66 r = dT X (fun x => w.testBit x.toNat) fr r) ∧ chg [66] [] s s')
      (fun i z => z.2 = (i : Int) ∧ (∀ r : Int, 0 ≤ r → r < 8 → z.1.2 66 r = itr (bfL X (fun x => w.testBit x.toNat)) i (bf0 (fun x => w.testBit x.toNat) fr) r) ∧ chg [66] [] s z.1) 8 ?_ ?_ 8 0 FU (s2, 0) rfl (by decide) ⟨rfl, h2, c2⟩
    · rintro fl n ⟨τ, x⟩ hn ⟨rfl, hy, cy⟩
      dsimp only at hy cy ⊢
      have vn := vals n
      have e9 : itr (bfL X (fun x => w.testBit x.toNat)) (n + 1) (bf0 (fun x => w.testBit x.toNat) fr) = itr (bfD X (fun x => w.testBit x.toNat) n) (xD X).toNat (itr (bfL X (fun x => w.testBit x.toNat)) n (bf0 (fun x => w.testBit x.toNat) fr)) := rfl
      rw [e9]
      generalize itr (bfL X (fun x => w.testBit x.toNat)) n (bf0 (fun x => w.testBit x.toNat) fr) = g at hy vn ⊢
      right
      -- the doors
      have lp : ∃ s' : TW, f_X8_fillsFar_L48 FU τ (w : Int) (n : Int) 0 (fun s22 x2 x3 => f_X8_fillsFar_L39 fl s22 x2 (x3 + 1) (fun s24 => some ((), s24))) = f_X8_fillsFar_L39 fl s' (w : Int) ((n : Int) + 1) (fun s24 => some ((), s24)) ∧ (∀ r : Int, 0 ≤ r → r < 8 → s'.2 66 r = itr (bfD X (fun x => w.testBit x.toNat) n) (xD X).toNat g r) ∧ chg [66] [] s s' := by
        refine loop (S := TW × Int) (fun f z => f_X8_fillsFar_L48 f z.1 (w : Int) (n : Int) z.2 (fun s22 x2 x3 => f_X8_fillsFar_L39 fl s22 x2 (x3 + 1) (fun s24 => some ((), s24)))) (fun o => ∃ s' : TW, o = f_X8_fillsFar_L39 fl s' (w : Int) ((n : Int) + 1) (fun s24 => some ((), s24)) ∧ (∀ r : Int, 0 ≤ r → r < 8 → s'.2 66 r = itr (bfD X (fun x => w.testBit x.toNat) n) (xD X).toNat g r) ∧ chg [66] [] s s')
          (fun i z => z.2 = (i : Int) ∧ ((∀ r : Int, 0 ≤ r → r < 8 → z.1.2 66 r = itr (bfD X (fun x => w.testBit x.toNat) n) i g r) ∧ ∀ r : Int, -1 ≤ itr (bfD X (fun x => w.testBit x.toNat) n) i g r ∧ itr (bfD X (fun x => w.testBit x.toNat) n) i g r ≤ n + 1) ∧ chg [66] [] s z.1) (xD X).toNat ?_ ?_ (xD X).toNat 0 FU (τ, 0) (by omega) (by rw [FU_eq]; omega) ⟨rfl, ⟨hy, fun r => ⟨(vn r).1, by have := (vn r).2; show g r ≤ n + 1; omega⟩⟩, cy⟩
        · rintro f d ⟨y, x⟩ hd ⟨rfl, ⟨hz, hv⟩, cz⟩
          dsimp only at hz hv cz ⊢
          have e8 : itr (bfD X (fun x => w.testBit x.toNat) n) (d + 1) g = bfD X (fun x => w.testBit x.toNat) n d (itr (bfD X (fun x => w.testBit x.toNat) n) d g) := rfl
          rw [e8]
          generalize itr (bfD X (fun x => w.testBit x.toNat) n) d g = h at hz hv ⊢
          have hsy := hs.same (cz.text (by decide) (by decide))
          have hxd := hX.2.2.2.2.2.2.1 d (by omega) (by omega)
          have hsd := hsy.2.2.1 d (by omega) (by omega)
          have t26 : ta y 26 (12 * y.1 18 + d) = some (xF X d) := by have := hsy.1; rw [ta26 (by omega) (by omega), hsd.1]
          have t27 : ta y 27 (12 * y.1 18 + d) = some (xT X d) := by have := hsy.1; rw [ta27 (by omega) (by omega), hsd.2]
          unfold bfD
          generalize xF X d = a at hxd t26 ⊢
          generalize xT X d = b at hxd t27 ⊢
          have ha := hv a
          have hb := hv b
          have t66a : ta y 66 a = some (h a) := by rw [ta66 (by omega) (by omega), hz a (by omega) (by omega)]
          have t66b : ta y 66 b = some (h b) := by rw [ta66 (by omega) (by omega), hz b (by omega) (by omega)]
          have hbb : anI (srI (w : Int) b) 1 = if w.testBit b.toNat = true then 1 else 0 := srb (by omega) (by omega) hw
          have hba : anI (srI (w : Int) a) 1 = if w.testBit a.toNat = true then 1 else 0 := srb (by omega) (by omega) hw
          right
          -- second half, for any state
          have half : ∀ (y' : TW) (h' : Int → Int), (∀ r : Int, 0 ≤ r → r < 8 → y'.2 66 r = h' r) → (∀ r : Int, -1 ≤ h' r ∧ h' r ≤ n + 1) → chg [66] [] s y' → ∃ y2 : TW, ((ta y' 66 b).bind fun v10 => (if ¬ nrm v10 = nrm (n : Int) then (f_X8_fillsFar_L48 f y' (w : Int) (n : Int) ((d : Int) + 1) (fun s22 x2 x3 => f_X8_fillsFar_L39 fl s22 x2 (x3 + 1) (fun s24 => some ((), s24)))) else ((ta y' 66 a).bind fun v11 => (if 0 ≤ nrm v11 then (f_X8_fillsFar_L48 f y' (w : Int) (n : Int) ((d : Int) + 1) (fun s22 x2 x3 => f_X8_fillsFar_L39 fl s22 x2 (x3 + 1) (fun s24 => some ((), s24)))) else ((if ¬ nrm (anI (srI (w : Int) a) 1) = nrm 1 then (f_X8_fillsFar_L48 f y' (w : Int) (n : Int) ((d : Int) + 1) (fun s22 x2 x3 => f_X8_fillsFar_L39 fl s22 x2 (x3 + 1) (fun s24 => some ((), s24)))) else ((ts y' 66 a (nrm ((n : Int) + 1))).bind fun s12 => f_X8_fillsFar_L48 f s12 (w : Int) (n : Int) ((d : Int) + 1) (fun s22 x2 x3 => f_X8_fillsFar_L39 fl s22 x2 (x3 + 1) (fun s24 => some ((), s24)))))))))) = f_X8_fillsFar_L48 f y2 (w : Int) (n : Int) ((d : Int) + 1) (fun s22 x2 x3 => f_X8_fillsFar_L39 fl s22 x2 (x3 + 1) (fun s24 => some ((), s24))) ∧ (∀ r : Int, 0 ≤ r → r < 8 → y2.2 66 r = bfS (fun x => w.testBit x.toNat) n b a h' r) ∧ (∀ r : Int, -1 ≤ bfS (fun x => w.testBit x.toNat) n b a h' r ∧ bfS (fun x => w.testBit x.toNat) n b a h' r ≤ n + 1) ∧ chg [66] [] s y2 := by
            intro y' h' g1 g2 g3
            have ga := g2 a
            have gb := g2 b
            have u66a : ta y' 66 a = some (h' a) := by rw [ta66 (by omega) (by omega), g1 a (by omega) (by omega)]
            have u66b : ta y' 66 b = some (h' b) := by rw [ta66 (by omega) (by omega), g1 b (by omega) (by omega)]
            rw [obP u66b, obP u66a, hba, nrm_i (z := h' b) (by omega) (by omega), nrm_i (z := (n : Int)) (by omega) (by omega), nrm_i (z := h' a) (by omega) (by omega)]
            unfold bfS
            by_cases q1 : h' b = n
            · by_cases q2 : h' a < 0
              · by_cases q3 : w.testBit a.toNat = true
                · rw [if_neg (fun h => h q1), if_neg (by omega), if_pos q3, if_neg (by decide), nrm_i (by omega) (by omega), sb66 (by omega) (by omega), if_pos ⟨q1, q2, q3⟩]
                  refine ⟨_, rfl, fun r r0 r1 => ?_, fun r => ?_, g3.ts (by decide) _ _⟩
                  · rw [tst_eq]
                    by_cases e : r = a
                    · rw [e, fuE, fuE]
                    · rw [fuN _ _ e, fuN _ _ e]; exact g1 r r0 r1
                  · by_cases e : r = a
                    · rw [e, fuE]; omega
                    · rw [fuN _ _ e]; exact g2 r
                · rw [if_neg (fun h => h q1), if_neg (by omega), if_neg q3, if_pos (by decide), if_neg (fun h => q3 h.2.2)]
                  exact ⟨y', rfl, g1, g2, g3⟩
              · rw [if_neg (fun h => h q1), if_pos (by omega), if_neg (fun h => q2 h.2.1)]
                exact ⟨y', rfl, g1, g2, g3⟩
            · rw [if_pos q1, if_neg (fun h => q1 h.1)]
              exact ⟨y', rfl, g1, g2, g3⟩
          rw [f_X8_fillsFar_L48, tz_D hsy, nrm_i (by omega) (by omega), nrm_i (by omega) (by omega), if_neg (by omega), obP t26, obP t27, obP t66a, jnS]
          rw [obP t66b, hbb, nrm_i (z := h a) (by omega) (by omega), nrm_i (z := (n : Int)) (by omega) (by omega), nrm_i (z := h b) (by omega) (by omega)]
          have e7 : ∀ (y2 : TW), (∀ r : Int, 0 ≤ r → r < 8 → y2.2 66 r = bfS (fun x => w.testBit x.toNat) n b a (bfS (fun x => w.testBit x.toNat) n a b h) r) → True := fun _ _ => trivial
          by_cases q1 : h a = n
          · by_cases q2 : h b < 0
            · by_cases q3 : w.testBit b.toNat = true
              · have eS : bfS (fun x => w.testBit x.toNat) n a b h = fu h b (n + 1) := by unfold bfS; rw [if_pos ⟨q1, q2, q3⟩]
                obtain ⟨y2, f1, f2, f3, f4⟩ := half (tst y 66 b ((n : Int) + 1)) (fu h b (n + 1)) (fun r r0 r1 => by
                  rw [tst_eq]
                  by_cases e : r = b
                  · rw [e, fuE, fuE]
                  · rw [fuN _ _ e, fuN _ _ e]; exact hz r r0 r1) (fun r => by
                  by_cases e : r = b
                  · rw [e, fuE]; omega
                  · rw [fuN _ _ e]; exact hv r) (cz.ts (by decide) _ _)
                refine ⟨(y2, ((d + 1 : Nat) : Int)), ?_, rfl, ⟨by rw [eS]; exact f2, by rw [eS]; exact f3⟩, f4⟩
                rw [if_neg (fun h => h q1), if_neg (by omega), if_pos q3, if_neg (by decide), nrm_i (by omega) (by omega), sb66 (by omega) (by omega)]
                exact f1
              · have eS : bfS (fun x => w.testBit x.toNat) n a b h = h := by unfold bfS; rw [if_neg (fun h => q3 h.2.2)]
                obtain ⟨y2, f1, f2, f3, f4⟩ := half y h hz hv cz
                refine ⟨(y2, ((d + 1 : Nat) : Int)), ?_, rfl, ⟨by rw [eS]; exact f2, by rw [eS]; exact f3⟩, f4⟩
                rw [if_neg (fun h => h q1), if_neg (by omega), if_neg q3, if_pos (by decide)]
                exact f1
            · have eS : bfS (fun x => w.testBit x.toNat) n a b h = h := by unfold bfS; rw [if_neg (fun h => q2 h.2.1)]
              obtain ⟨y2, f1, f2, f3, f4⟩ := half y h hz hv cz
              refine ⟨(y2, ((d + 1 : Nat) : Int)), ?_, rfl, ⟨by rw [eS]; exact f2, by rw [eS]; exact f3⟩, f4⟩
              rw [if_neg (fun h => h q1), if_pos (by omega)]
              exact f1
          · have eS : bfS (fun x => w.testBit x.toNat) n a b h = h := by unfold bfS; rw [if_neg (fun h => q1 h.1)]
            obtain ⟨y2, f1, f2, f3, f4⟩ := half y h hz hv cz
            refine ⟨(y2, ((d + 1 : Nat) : Int)), ?_, rfl, ⟨by rw [eS]; exact f2, by rw [eS]; exact f3⟩, f4⟩
            rw [if_pos q1]
            exact f1
        · rintro f ⟨y, x⟩ ⟨rfl, ⟨hz, hv⟩, cz⟩
          dsimp only at hz hv cz ⊢
          have hsy := hs.same (cz.text (by decide) (by decide))
          refine ⟨y, ?_, hz, cz⟩
          rw [f_X8_fillsFar_L48, tz_D hsy, nrm_i (by omega) (by omega), nrm_i (by omega) (by omega), if_pos (by omega)]
      obtain ⟨s', e7, h7, c7⟩ := lp
      refine ⟨(s', ((n + 1 : Nat) : Int)), ?_, rfl, h7, c7⟩
      rw [f_X8_fillsFar_L39, nrm_i (z := 8) (by decide) (by decide), nrm_i (by omega) (by omega), if_neg (by omega), e7]
      rfl
    · rintro fl ⟨τ, x⟩ ⟨rfl, hy, cy⟩
      dsimp only at hy cy ⊢
      refine ⟨τ, ?_, fun r r0 r1 => (hy r r0 r1).trans (bf_eq hX r), cy⟩
      rw [f_X8_fillsFar_L39, if_pos (by decide)]
  · rw [if_neg hA, if_neg (by decide)]
    refine ⟨s1, rfl, fun r r0 r1 => (h1 r r0 r1).trans (dT_no (by simpa using hA) r).symm, c1⟩
end

set_option maxRecDepth 100000
/-! ===== PURE: courts that change ===== -/
def f2 (f : Int → Int → Int) (a b v : Int) : Int → Int → Int := fun x y => if x = a ∧ y = b then v else f x y
def setW (K : Crt) (a b v : Int) : Crt := (K.1, (f2 (kW K) a b v, kR K, kH K, kU K, kL K), K.2.2)
def setR (K : Crt) (a b v : Int) : Crt := (K.1, (kW K, f2 (kR K) a b v, kH K, kU K, kL K), K.2.2)
def setH (K : Crt) (a b v : Int) : Crt := (K.1, (kW K, kR K, f2 (kH K) a b v, kU K, kL K), K.2.2)
def setU (K : Crt) (a b v : Int) : Crt := (K.1, (kW K, kR K, kH K, f2 (kU K) a b v, kL K), K.2.2)
def setL (K : Crt) (a b v : Int) : Crt := (K.1, (kW K, kR K, kH K, kU K, f2 (kL K) a b v), K.2.2)
def setB (K : Crt) (k b v : Int) : Crt := (K.1, K.2.1, (fu (kB K) k b, fu (kF K) k v))
/-- how late a mirror is now, by a rank -/
def pcn (x : Nat) : Int := ((cn (fun a => x.testBit a) 8 : Nat) : Int)
def clp (v : Int) : Int := if v < 0 then 0 else if 240 < v then 240 else v
def lat (X : Txt) (K : Crt) (k rk : Int) : Int := clp (xL X (kMi K) (kH K k (kMi K)) rk k (wys X (kH K k (kMi K))) (pcn (mIn X K (kH K k (kMi K)) (kMi K))))
/-- mirrors are as late as they are -/
def lkI (X : Txt) (K : Crt) : Nat → Crt
  | 0 => K
  | i + 1 => setL (lkI X K i) i (kMi K) (lat X K i (kR K (xOw X i) (kMi K)))
def lks (X : Txt) (K : Crt) : Crt := lkI X K (xK X).toNat
theorem clp_in (v : Int) : 0 ≤ clp v ∧ clp v ≤ 240 := by
  unfold clp
  split
  · omega
  · split <;> omega
theorem f2_eq (f : Int → Int → Int) (a b v : Int) : f2 f a b v a b = v := by unfold f2; rw [if_pos ⟨rfl, rfl⟩]
theorem f2_ne (f : Int → Int → Int) {a b x y : Int} (v : Int) (h : ¬ (x = a ∧ y = b)) : f2 f a b v x y = f x y := by unfold f2; rw [if_neg h]
theorem RepR.setL {qq : Int} {a : Int → Int} {mi : Int} {br sh : Int → Int} {X : Txt} {K : Crt} (h : RepR qq a mi br sh X K) (hX : WfX X) {k t : Int} (v : Int) (h0 : 0 ≤ k) (h1 : k < 8) : RepR qq (fu a (36 * t + 28 + k) v) mi br sh X (setL K k t v) := by
  have a1 := hX.2.2.1
  have a2 := hX.2.2.2.1
  refine ⟨h.1, fun m u b0 b1 b2 b3 => ?_, fun q u b0 b1 b2 b3 => ?_, h.2.2.2⟩
  · rw [fuN _ _ (by omega), fuN _ _ (by omega)]
    exact h.2.1 m u b0 b1 b2 b3
  · obtain ⟨c1, c2, c3⟩ := h.2.2.1 q u b0 b1 b2 b3
    rw [fuN _ _ (by omega), fuN _ _ (by omega)]
    refine ⟨c1, c2, fun hq => ?_⟩
    show _ = f2 (kL K) k t v q u
    by_cases e : q = k ∧ u = t
    · rw [e.1, e.2, fuE, f2_eq]
    · rw [fuN _ _ (by omega), f2_ne _ _ e]
      exact c3 hq
theorem RepR.setU {qq : Int} {a : Int → Int} {mi : Int} {br sh : Int → Int} {X : Txt} {K : Crt} (h : RepR qq a mi br sh X K) (hX : WfX X) {k t : Int} (v : Int) (h0 : 0 ≤ k) (h1 : k < 8) : RepR qq (fu a (36 * t + 20 + k) v) mi br sh X (setU K k t v) := by
  have a1 := hX.2.2.1
  have a2 := hX.2.2.2.1
  refine ⟨h.1, fun m u b0 b1 b2 b3 => ?_, fun q u b0 b1 b2 b3 => ?_, h.2.2.2⟩
  · rw [fuN _ _ (by omega), fuN _ _ (by omega)]
    exact h.2.1 m u b0 b1 b2 b3
  · obtain ⟨c1, c2, c3⟩ := h.2.2.1 q u b0 b1 b2 b3
    rw [fuN (j := 36 * u + 12 + q) _ _ (by omega), fuN (j := 36 * u + 28 + q) _ _ (by omega)]
    refine ⟨c1, ?_, c3⟩
    show _ = f2 (kU K) k t v q u
    by_cases e : q = k ∧ u = t
    · rw [e.1, e.2, fuE, f2_eq]
    · rw [fuN _ _ (by omega), f2_ne _ _ e]
      exact c2
theorem RepR.setH {qq : Int} {a : Int → Int} {mi : Int} {br sh : Int → Int} {X : Txt} {K : Crt} (h : RepR qq a mi br sh X K) (hX : WfX X) {k t : Int} (v : Int) (h0 : 0 ≤ k) (h1 : k < 8) : RepR qq (fu a (36 * t + 12 + k) v) mi br sh X (setH K k t v) := by
  have a1 := hX.2.2.1
  have a2 := hX.2.2.2.1
  refine ⟨h.1, fun m u b0 b1 b2 b3 => ?_, fun q u b0 b1 b2 b3 => ?_, h.2.2.2⟩
  · rw [fuN _ _ (by omega), fuN _ _ (by omega)]
    exact h.2.1 m u b0 b1 b2 b3
  · obtain ⟨c1, c2, c3⟩ := h.2.2.1 q u b0 b1 b2 b3
    rw [fuN (j := 36 * u + 20 + q) _ _ (by omega), fuN (j := 36 * u + 28 + q) _ _ (by omega)]
    refine ⟨?_, c2, c3⟩
    show _ = f2 (kH K) k t v q u
    by_cases e : q = k ∧ u = t
    · rw [e.1, e.2, fuE, f2_eq]
    · rw [fuN _ _ (by omega), f2_ne _ _ e]
      exact c1
theorem RepR.setW {qq : Int} {a : Int → Int} {mi : Int} {br sh : Int → Int} {X : Txt} {K : Crt} (h : RepR qq a mi br sh X K) (hX : WfX X) {k t : Int} (v : Int) (h0 : 0 ≤ k) (h1 : k < 6) : RepR qq (fu a (36 * t + k) v) mi br sh X (setW K k t v) := by
  have a1 := hX.2.2.1
  have a2 := hX.2.2.2.1
  refine ⟨h.1, fun q u b0 b1 b2 b3 => ?_, fun q u b0 b1 b2 b3 => ?_, h.2.2.2⟩
  · obtain ⟨c1, c2⟩ := h.2.1 q u b0 b1 b2 b3
    rw [fuN (j := 36 * u + 6 + q) _ _ (by omega)]
    refine ⟨?_, c2⟩
    show _ = f2 (kW K) k t v q u
    by_cases e : q = k ∧ u = t
    · rw [e.1, e.2, fuE, f2_eq]
    · rw [fuN _ _ (by omega), f2_ne _ _ e]
      exact c1
  · rw [fuN _ _ (by omega), fuN _ _ (by omega), fuN _ _ (by omega)]
    exact h.2.2.1 q u b0 b1 b2 b3
theorem RepR.setR {qq : Int} {a : Int → Int} {mi : Int} {br sh : Int → Int} {X : Txt} {K : Crt} (h : RepR qq a mi br sh X K) (hX : WfX X) {k t : Int} (v : Int) (h0 : 0 ≤ k) (h1 : k < 6) : RepR qq (fu a (36 * t + 6 + k) v) mi br sh X (setR K k t v) := by
  have a1 := hX.2.2.1
  have a2 := hX.2.2.2.1
  refine ⟨h.1, fun q u b0 b1 b2 b3 => ?_, fun q u b0 b1 b2 b3 => ?_, h.2.2.2⟩
  · obtain ⟨c1, c2⟩ := h.2.1 q u b0 b1 b2 b3
    rw [fuN (j := 36 * u + q) _ _ (by omega)]
    refine ⟨c1, ?_⟩
    show _ = f2 (kR K) k t v q u
    by_cases e : q = k ∧ u = t
    · rw [e.1, e.2, fuE, f2_eq]
    · rw [fuN _ _ (by omega), f2_ne _ _ e]
      exact c2
  · rw [fuN _ _ (by omega), fuN _ _ (by omega), fuN _ _ (by omega)]
    exact h.2.2.1 q u b0 b1 b2 b3
theorem RepR.setB {qq : Int} {a : Int → Int} {mi : Int} {br sh : Int → Int} {X : Txt} {K : Crt} (h : RepR qq a mi br sh X K) (k b v : Int) : RepR qq a mi (fu br k (if b = 300 then -1 else b)) (fu sh k v) X (setB K k b v) := by
  refine ⟨h.1, h.2.1, h.2.2.1, fun q b0 b1 => ?_⟩
  obtain ⟨c1, c2⟩ := h.2.2.2 q b0 b1
  show _ = (if fu (kB K) k b q = 300 then -1 else fu (kB K) k b q) ∧ _ = fu (kF K) k v q
  by_cases e : q = k
  · rw [e, fuE, fuE, fuE, fuE]
    exact ⟨rfl, rfl⟩
  · rw [fuN _ _ e, fuN _ _ e, fuN _ _ e, fuN _ _ e]
    exact ⟨c1, c2⟩
theorem WfQ.setL {qq : Int} {X : Txt} {K : Crt} (h : WfQ qq X K) (k t : Int) {v : Int} (hv : 0 ≤ v ∧ v ≤ 240) : WfQ qq X (setL K k t v) := by
  refine ⟨h.1, h.2.1, fun q u b0 b1 b2 b3 => ?_, h.2.2.2⟩
  obtain ⟨c1, c2, c3⟩ := h.2.2.1 q u b0 b1 b2 b3
  refine ⟨c1, c2, fun hq => ?_⟩
  show 0 ≤ f2 (kL K) k t v q u ∧ f2 (kL K) k t v q u ≤ 240
  unfold f2
  split
  · exact hv
  · exact c3 hq
theorem lkI_wf {qq : Int} {X : Txt} {K : Crt} (h : WfQ qq X K) : ∀ i : Nat, WfQ qq X (lkI X K i) := by
  intro i
  induction i with
  | zero => exact h
  | succ i ih => exact ih.setL _ _ (clp_in _)
theorem lkI_same (X : Txt) (K : Crt) : ∀ i : Nat, kMi (lkI X K i) = kMi K ∧ kSd (lkI X K i) = kSd K ∧ kW (lkI X K i) = kW K ∧ kR (lkI X K i) = kR K ∧ kH (lkI X K i) = kH K ∧ kU (lkI X K i) = kU K ∧ kB (lkI X K i) = kB K ∧ kF (lkI X K i) = kF K := by
  intro i
  induction i with
  | zero => exact ⟨rfl, rfl, rfl, rfl, rfl, rfl, rfl, rfl⟩
  | succ i ih => exact ih
theorem lkI_lat (X : Txt) (K : Crt) (i : Nat) (k rk : Int) : lat X (lkI X K i) k rk = lat X K k rk := by
  obtain ⟨e1, -, e3, -, e5, -⟩ := lkI_same X K i
  unfold lat mIn
  rw [e1, e3, e5]
section
variable {s : TW} {X : Txt} {K : Crt}
theorem cstep {c : Prop} [Decidable c] {α : Type} {a b : α} (h : c) : (if c then a else b) = a := if_pos h
theorem RepQ.mv {q : Int} {s' : TW} (h : RepQ q s X K) (e1 : s'.2 56 = s.2 56) (e2 : s'.1 57 = s.1 57) (e3 : s'.2 58 = s.2 58) (e4 : s'.2 59 = s.2 59) : RepQ q s' X K := by
  unfold RepQ
  rw [e1, e2, e3, e4]
  exact h
theorem RepQ.chg {q : Int} {s' : TW} (h : RepQ q s X K) {ks fs : List Int} (e : chg ks fs s s') (h1 : (56 : Int) ∉ ks ∧ (58 : Int) ∉ ks ∧ (59 : Int) ∉ ks) (h2 : (57 : Int) ∉ fs) : RepQ q s' X K :=
  h.mv (e.1 56 h1.1) (e.2 57 h2) (e.1 58 h1.2.1) (e.1 59 h1.2.2)
theorem t_lateBy {q : Int} (hX : WfX X) (hs : RepX s X) (hr : RepQ q s X K) (hK : WfQ q X K) {k rk : Int} (h0 : 0 ≤ k) (h1 : k < xK X) (hk0 : 0 ≤ rk) (hk1 : rk ≤ 20) : ∃ s' : TW, f_X8_lateBy s k rk = some (lat X K k rk, s') ∧ chg [49, 50] [51] s s' := by
  have a1 := hX.2.2.2.1
  have a0 := hX.1
  have a2 := hK.1
  have hh := hr.2.2.1 k (kMi K) h0 h1 (by omega) (Int.le_refl _)
  have hw := (hK.2.2.1 k (kMi K) h0 h1 (by omega) (Int.le_refl _)).1
  have hmi : s.1 57 = kMi K := hr.1
  unfold f_X8_lateBy
  rw [ta56 (by omega) (by omega), obS, hmi, hh.1, ts49 (by decide) (by decide), obS, ts49 (by decide) (by decide), obS, ts49 (by decide) (by decide), obS, ts49 (by decide) (by decide), obS, nrm_i (z := rk) (by omega) (by omega), nrm_i (z := k) (by omega) (by omega)]
  have c1 : chg [49, 50] [51] s (tst (tst (tst (tst s 49 0 (kMi K)) 49 1 (kH K k (kMi K))) 49 2 rk) 49 3 k) := ((((chg.rf _ _ s).ts (by decide) _ _).ts (by decide) _ _).ts (by decide) _ _).ts (by decide) _ _
  rw [t_waysOf hX (hs.same (c1.text (by decide) (by decide))) (by omega) (by omega), btS, ts49 (by decide) (by decide), obS]
  have c2 := c1.ts (k := 49) (by decide) 4 (wys X (kH K k (kMi K)))
  have e57 : (tst (tst (tst (tst (tst s 49 0 (kMi K)) 49 1 (kH K k (kMi K))) 49 2 rk) 49 3 k) 49 4 (wys X (kH K k (kMi K)))).1 57 = kMi K := (c2.2 57 (by decide)).trans hmi
  rw [e57, t_menIn hX (hs.same (c2.text (by decide) (by decide))) (hr.chg c2 (by decide) (by decide)) hK (by omega) (by omega) (by omega) (Int.le_refl _), btS, t_bits _ _ (Nat.lt_of_lt_of_le (mIn_lt X hX K _ _) (by decide)), btS, ts49 (by decide) (by decide), obS]
  have c3 := c2.ts (k := 49) (by decide) 5 (pcn (mIn X K (kH K k (kMi K)) (kMi K)))
  have n240 : nrm 240 = 240 := by decide
  obtain ⟨p, ib, r, e1, e2, e9⟩ := hs.2.2.2.2.2 _ (c3.text (by decide) (by decide)).side
  simp only [tst_eq] at e1 e2
  rw [fuN _ _ (by decide), fuN _ _ (by decide), fuN _ _ (by decide), fuE] at e1
  have g0 : (fu (fu (fu (fu (fu (fu (s.2 49) 0 (kMi K)) 1 (kH K k (kMi K))) 2 rk) 3 k) 4 (wys X (kH K k (kMi K)))) 5 (pcn (mIn X K (kH K k (kMi K)) (kMi K)))) 0 = kMi K := by simp [fu]
  have e3 : r = xL X (kMi K) (kH K k (kMi K)) rk k (wys X (kH K k (kMi K))) (pcn (mIn X K (kH K k (kMi K)) (kMi K))) := by
    rw [e2]; simp [fu]
  have e1' := e1
  unfold pcn at e1'
  rw [e1', btS]
  have hcl : lat X K k rk = clp r := by unfold lat; rw [← e3]
  have cc : chg [49, 50] [51] s (setPB (tst (tst (tst (tst (tst (tst s 49 0 (kMi K)) 49 1 (kH K k (kMi K))) 49 2 rk) 49 3 k) 49 4 (wys X (kH K k (kMi K)))) 49 5 (pcn (mIn X K (kH K k (kMi K)) (kMi K)))) p ib) := by
    refine ⟨fun j hj => ?_, fun j hj => ?_⟩
    · show fu _ 50 p j = _
      rw [fuN _ _ (by simp at hj; omega)]
      exact c3.1 j hj
    · show fu _ 51 ib j = _
      rw [fuN _ _ (by simp at hj; omega)]
      exact c3.2 j hj
  rw [hcl, e9, n240]
  unfold clp
  by_cases q1 : 0 ≤ r
  · rw [if_pos q1, if_neg (show ¬ r < 0 by omega)]
    by_cases q2 : r ≤ 240
    · rw [if_pos q2, if_neg (show ¬ 240 < r by omega)]
      exact ⟨_, rfl, cc⟩
    · rw [if_neg q2, if_pos (show 240 < r by omega)]
      exact ⟨_, rfl, cc⟩
  · rw [if_neg q1, if_pos (show r < 0 by omega)]
    exact ⟨_, rfl, cc⟩
theorem t_rankOfOwner {q : Int} (hX : WfX X) (hs : RepX s X) (hr : RepQ q s X K) (hK : WfQ q X K) {k : Int} (h0 : 0 ≤ k) (h1 : k < xK X) : f_X8_rankOfOwner s k = some (kR K (xOw X k) (kMi K), s) := by
  have a1 := hX.2.2.2.1
  have a4 := hX.2.2.1
  have a3 := hs.1
  have a2 := hK.1
  have ho := (hX.2.2.2.2.2.2.2.2 k h0 h1).2
  have hmi : s.1 57 = kMi K := hr.1
  unfold f_X8_rankOfOwner
  rw [ta33 (by omega) (by omega), obS, (hs.2.2.2.2.1 k h0 h1).2, hmi, ta56 (by omega) (by omega), obS, (hr.2.1 (xOw X k) (kMi K) (by omega) (by omega) (by omega) (Int.le_refl _)).2]
theorem lkI_L (X : Txt) (K : Crt) : ∀ (i : Nat) (k t : Int), 0 ≤ k → kL (lkI X K i) k t = if t = kMi K ∧ k < i then lat X K k (kR K (xOw X k) (kMi K)) else kL K k t := by
  intro i
  induction i with
  | zero => intro k t h0; rw [if_neg (by omega)]; rfl
  | succ i ih =>
    intro k t h0
    show f2 (kL (lkI X K i)) i (kMi K) _ k t = _
    by_cases e : k = (i : Int) ∧ t = kMi K
    · rw [e.1, e.2, f2_eq, if_pos (by omega)]
    · rw [f2_ne _ _ e, ih k t h0]
      by_cases h : t = kMi K ∧ k < i
      · rw [if_pos h, if_pos (by omega)]
      · rw [if_neg h, if_neg (by omega)]
theorem lks_wf {X : Txt} {K : Crt} (h : WfQ (kMi K - 1) X K) : WfK X (lks X K) := by
  have h1 := lkI_wf h (xK X).toNat
  obtain ⟨g1, -⟩ := lkI_same X K (xK X).toNat
  refine ⟨h1.1, h1.2.1, fun k t b0 b1 b2 b3 => ⟨(h1.2.2.1 k t b0 b1 b2 b3).1, (h1.2.2.1 k t b0 b1 b2 b3).2.1, fun _ => ?_⟩, h1.2.2.2⟩
  unfold lks at b3 ⊢
  rw [g1] at b3
  rw [lkI_L X K _ k t b0]
  by_cases e : t = kMi K ∧ k < ((xK X).toNat : Int)
  · rw [if_pos e]; exact clp_in _
  · rw [if_neg e]
    exact (h.2.2.1 k t b0 b1 b2 b3).2.2 (by omega)
theorem t_fillsLate (hX : WfX X) (hs : RepX s X) (hr : RepQ (kMi K - 1) s X K) (hK : WfQ (kMi K - 1) X K) : ∃ s' : TW, f_X8_fillsLate s = some ((), s') ∧ RepW s' X (lks X K) ∧ chg [49, 50, 56] [51] s s' := by
  have a1 := hX.2.2.2.1
  have a3 := hs.1
  have a2 := hK.1
  unfold f_X8_fillsLate lks
  refine loop (S := TW × Int) (fun n q => f_X8_fillsLate_L2 n q.1 q.2 (fun s8 => some ((), s8))) (fun o => ∃ s' : TW, o = some ((), s') ∧ RepW s' X (lkI X K (xK X).toNat) ∧ chg [49, 50, 56] [51] s s') (fun i q => q.2 = (i : Int) ∧ (RepQ (kMi K - 1) q.1 X (lkI X K i) ∧ ∀ k : Int, 0 ≤ k → k < i → q.1.2 56 (36 * kMi K + 28 + k) = lat X K k (kR K (xOw X k) (kMi K))) ∧ chg [49, 50, 56] [51] s q.1) (xK X).toNat ?_ ?_ (xK X).toNat 0 FU (s, 0) (by omega) (by rw [FU_eq]; omega) ⟨rfl, ⟨hr, fun k _ h => by omega⟩, chg.rf _ _ _⟩
  · rintro n i ⟨q, b⟩ hi ⟨rfl, ⟨hq, hql⟩, hc⟩
    dsimp only at hq hc hql ⊢
    have hs' := hs.same (hc.text (by decide) (by decide))
    have hK' := lkI_wf hK i
    obtain ⟨g1, -, -, g4, -⟩ := lkI_same X K i
    have hmi : q.1 57 = kMi K := hq.1.trans g1
    have ho := (hX.2.2.2.2.2.2.2.2 i (by omega) (by omega)).2
    have hrk := (hK.2.1 (xOw X i) (kMi K) ho.1 ho.2 a2.1 (Int.le_refl _)).2
    obtain ⟨s1, e1, c1⟩ := t_lateBy (k := i) (rk := kR K (xOw X i) (kMi K)) hX hs' hq hK' (by omega) (by omega) hrk.1 hrk.2
    right
    refine ⟨(tst s1 56 (36 * kMi K + 28 + i) (lat X K i (kR K (xOw X i) (kMi K))), ((i + 1 : Nat) : Int)), ?_, rfl, ⟨?_, ?_⟩, ?_⟩
    · rw [f_X8_fillsLate_L2, ta31 (by have := hs'.1; omega) (by have := hs'.1; omega), obS, hs'.2.1.2.2.2.1, nrm_i (z := xK X) (by omega) (by omega), nrm_i (z := (i : Int)) (by omega) (by omega), if_neg (by omega), t_rankOfOwner hX hs' hq hK' (by omega) (by omega), btS, g4, g1, e1, btS, lkI_lat, hmi, ts56 (by omega) (by omega), obS]
      rfl
    · have w1 : RepQ (kMi K - 1) s1 X (lkI X K i) := hq.chg c1 (by decide) (by decide)
      have w2 := RepR.setL w1 hX (k := i) (t := kMi K) (lat X K i (kR K (xOw X i) (kMi K))) (by omega) (by omega)
      show RepR _ ((tst s1 56 (36 * kMi K + 28 + i) _).2 56) _ ((tst s1 56 _ _).2 58) ((tst s1 56 _ _).2 59) X _
      rw [tst_eq, tst_ne _ _ _ (by decide), tst_ne _ _ _ (by decide)]
      exact w2
    · intro k k0 k1
      show (tst s1 56 (36 * kMi K + 28 + i) _).2 56 _ = _
      rw [tst_eq]
      by_cases e : k = i
      · rw [e, fuE]
      · rw [fuN _ _ (by omega), c1.1 56 (by decide)]
        exact hql k k0 (by omega)
    · exact (hc.tr (c1.up (by decide) (by decide))).ts (by decide) _ _
  · rintro n ⟨q, b⟩ ⟨rfl, ⟨hq, hql⟩, hc⟩
    dsimp only at hq hc hql ⊢
    have hs' := hs.same (hc.text (by decide) (by decide))
    refine ⟨q, ?_, ?_, hc⟩
    · rw [f_X8_fillsLate_L2, ta31 (by have := hs'.1; omega) (by have := hs'.1; omega), obS, hs'.2.1.2.2.2.1, nrm_i (z := xK X) (by omega) (by omega), nrm_i (by omega) (by omega), if_pos (by omega)]
    · obtain ⟨g1, -⟩ := lkI_same X K (xK X).toNat
      refine ⟨hq.1, hq.2.1, fun k t b0 b1 b2 b3 => ⟨(hq.2.2.1 k t b0 b1 b2 b3).1, (hq.2.2.1 k t b0 b1 b2 b3).2.1, fun _ => ?_⟩, hq.2.2.2⟩
      rw [g1] at b3
      by_cases e : t = kMi K
      · rw [lkI_L X K _ k t b0, if_pos (by omega), e]
        exact hql k b0 (by omega)
      · exact (hq.2.2.1 k t b0 b1 b2 (by rw [g1]; exact b3)).2.2 (by omega)
end

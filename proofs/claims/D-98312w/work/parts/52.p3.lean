set_option maxRecDepth 100000
/-! ===== PURE: what a text tells, what a court is ===== -/
/- rooms, doors, men, mirrors, breaks, seed; where each door leads from and to; of men rank and room, of mirrors room and owner; where men go, how late mirrors are -/
/-- a law, of six numbers -/
abbrev Lw : Type := Int → Int → Int → Int → Int → Int → Int
abbrev Txt : Type := (Int × Int × Int × Int × Int × Int) × ((Int → Int) × (Int → Int)) × ((Int → Int) × (Int → Int) × (Int → Int) × (Int → Int)) × ((Int → Lw) × Lw)
def xR (X : Txt) : Int := X.1.1
def xD (X : Txt) : Int := X.1.2.1
def xM (X : Txt) : Int := X.1.2.2.1
def xK (X : Txt) : Int := X.1.2.2.2.1
def xB (X : Txt) : Int := X.1.2.2.2.2.1
def xS (X : Txt) : Int := X.1.2.2.2.2.2
def xF (X : Txt) : Int → Int := X.2.1.1
def xT (X : Txt) : Int → Int := X.2.1.2
def xRk (X : Txt) : Int → Int := X.2.2.1.1
def xRm (X : Txt) : Int → Int := X.2.2.1.2.1
def xHg (X : Txt) : Int → Int := X.2.2.1.2.2.1
def xOw (X : Txt) : Int → Int := X.2.2.1.2.2.2
def xG (X : Txt) : Int → Lw := X.2.2.2.1
def xL (X : Txt) : Lw := X.2.2.2.2
def WfX (X : Txt) : Prop := (0 ≤ xR X ∧ xR X ≤ 8) ∧ (0 ≤ xD X ∧ xD X ≤ 12) ∧ (0 ≤ xM X ∧ xM X ≤ 6) ∧ (0 ≤ xK X ∧ xK X ≤ 8) ∧ (0 ≤ xB X ∧ xB X ≤ 100) ∧ (0 ≤ xS X ∧ xS X ≤ 9999) ∧
  (∀ d : Int, 0 ≤ d → d < xD X → (0 ≤ xF X d ∧ xF X d < xR X) ∧ (0 ≤ xT X d ∧ xT X d < xR X) ∧ xF X d ≠ xT X d) ∧
  (∀ m : Int, 0 ≤ m → m < xM X → (0 ≤ xRk X m ∧ xRk X m ≤ 20) ∧ (0 ≤ xRm X m ∧ xRm X m < xR X)) ∧
  (∀ k : Int, 0 ≤ k → k < xK X → (0 ≤ xHg X k ∧ xHg X k < xR X) ∧ (0 ≤ xOw X k ∧ xOw X k < xM X))
/-- a court: minute and seed; where men were, their ranks, where mirrors hung, whether they were turned, how late they were; when they broke (300: never), what they showed then -/
abbrev Crt : Type := (Int × Int) × ((Int → Int → Int) × (Int → Int → Int) × (Int → Int → Int) × (Int → Int → Int) × (Int → Int → Int)) × ((Int → Int) × (Int → Int))
def kMi (K : Crt) : Int := K.1.1
def kSd (K : Crt) : Int := K.1.2
def kW (K : Crt) : Int → Int → Int := K.2.1.1
def kR (K : Crt) : Int → Int → Int := K.2.1.2.1
def kH (K : Crt) : Int → Int → Int := K.2.1.2.2.1
def kU (K : Crt) : Int → Int → Int := K.2.1.2.2.2.1
def kL (K : Crt) : Int → Int → Int := K.2.1.2.2.2.2
def kB (K : Crt) : Int → Int := K.2.2.1
def kF (K : Crt) : Int → Int := K.2.2.2
/-- q: till when it is known how late mirrors were -/
def WfQ (q : Int) (X : Txt) (K : Crt) : Prop := (0 ≤ kMi K ∧ kMi K ≤ 299) ∧
  (∀ m t : Int, 0 ≤ m → m < xM X → 0 ≤ t → t ≤ kMi K → (0 ≤ kW K m t ∧ kW K m t < xR X) ∧ (0 ≤ kR K m t ∧ kR K m t ≤ 20)) ∧
  (∀ k t : Int, 0 ≤ k → k < xK X → 0 ≤ t → t ≤ kMi K → (0 ≤ kH K k t ∧ kH K k t < xR X) ∧ (kU K k t = 0 ∨ kU K k t = 1) ∧ (t ≤ q → 0 ≤ kL K k t ∧ kL K k t ≤ 240)) ∧
  (∀ k : Int, 0 ≤ k → k < xK X → (kB K k = 300 ∨ (0 ≤ kB K k ∧ kB K k ≤ kMi K)) ∧ (kF K k = -2 ∨ (0 ≤ kF K k ∧ kF K k ≤ kMi K)))
abbrev WfK (X : Txt) (K : Crt) : Prop := WfQ (kMi K) X K
/-- the minute that a mirror shows at a minute; -2: nothing -/
def sh0 (K : Crt) (k t : Int) : Int := if kB K k ≤ t then kF K k else t - kL K k t
def shw (K : Crt) (k t : Int) : Int := if kU K k t = 0 ∧ 0 ≤ sh0 K k t ∧ kU K k (sh0 K k t) = 0 then sh0 K k t else -2
/-- who is in a room at a minute -/
def mIn (X : Txt) (K : Crt) (r t : Int) : Nat := ms (fun m => decide (kW K m t = r)) (xM X).toNat
def mSh (X : Txt) (K : Crt) (k t : Int) : Nat := if 0 ≤ shw K k t then mIn X K (kH K k (shw K k t)) (shw K k t) else 0
theorem mIn_lt (X : Txt) (hX : WfX X) (K : Crt) (r t : Int) : mIn X K r t < 64 := by
  refine Nat.lt_of_lt_of_le (ms_lt _ _) ?_
  have := hX.2.2.1
  exact Nat.pow_le_pow_right (n := 2) (by decide) (show (xM X).toNat ≤ 6 by omega)
theorem shw_le {X : Txt} {K : Crt} (hK : WfK X K) {k t : Int} (h0 : 0 ≤ k) (h1 : k < xK X) (h2 : 0 ≤ t) (h3 : t ≤ kMi K) : shw K k t = -2 ∨ (0 ≤ shw K k t ∧ shw K k t ≤ kMi K) := by
  unfold shw
  split
  · next h =>
    right
    refine ⟨h.2.1, ?_⟩
    unfold sh0
    have a1 := (hK.2.2.2 k h0 h1).2
    have a2 := (hK.2.2.1 k t h0 h1 h2 h3).2.2 h3
    split
    · rcases a1 with a1 | a1 <;> omega
    · omega
  · left; rfl
/-! ===== the twin's view of a text and of a court ===== -/
def sameText (s s' : TW) : Prop := s'.1 18 = s.1 18 ∧ ∀ k : Nat, 24 ≤ k → k ≤ 46 → s'.2 k = s.2 k
theorem sameText.rf (s : TW) : sameText s s := ⟨rfl, fun _ _ _ => rfl⟩
/-- the arrays of a text: how wide a side is -/
def sdL : List (Nat × Int) := [(24, 1), (25, 1), (26, 12), (27, 12), (28, 1), (29, 6), (30, 6), (31, 1), (32, 8), (33, 8), (34, 1), (35, 1), (36, 7), (37, 7), (39, 130), (40, 130), (41, 130), (42, 130), (43, 130), (45, 420), (46, 420)]
/-- the side that lives is the same -/
def sideText (s s' : TW) : Prop := s'.1 18 = s.1 18 ∧ ∀ (k : Nat) (w : Int), (k, w) ∈ sdL → ∀ j : Int, 0 ≤ j → j < w → s'.2 k (w * s.1 18 + j) = s.2 k (w * s.1 18 + j)
theorem sideText.tr {a b c : TW} (h : sideText a b) (g : sideText b c) : sideText a c := ⟨g.1.trans h.1, fun k w hk j j0 j1 => by have := g.2 k w hk j j0 j1; rw [h.1] at this; exact this.trans (h.2 k w hk j j0 j1)⟩
theorem sameText.side {s s' : TW} (h : sameText s s') : sideText s s' := ⟨h.1, fun k w hk j _ _ => by
  have : ∀ q ∈ sdL, 24 ≤ q.1 ∧ q.1 ≤ 46 := by decide
  have := this _ hk
  rw [h.2 k this.1 this.2]⟩
def setPB (s : TW) (p : Int → Int) (ib : Int) : TW := (fu s.1 51 ib, fu s.2 50 p)
def lawT (s : TW) (k : Int) (pl : (Int → Int) → Int) (L : Lw) : Prop :=
  ∀ s' : TW, sideText s s' → ∃ (p : Int → Int) (ib r : Int), f_X8_tells s' k (pl (s'.2 49)) = some (r, setPB s' p ib) ∧ r = L (s'.2 49 0) (s'.2 49 1) (s'.2 49 2) (s'.2 49 3) (s'.2 49 4) (s'.2 49 5) ∧ nrm r = r
def RepX (s : TW) (X : Txt) : Prop := (s.1 18 = 0 ∨ s.1 18 = 1) ∧ (s.2 24 (s.1 18) = xR X ∧ s.2 25 (s.1 18) = xD X ∧ s.2 28 (s.1 18) = xM X ∧ s.2 31 (s.1 18) = xK X ∧ s.2 34 (s.1 18) = xB X ∧ s.2 35 (s.1 18) = xS X) ∧
  (∀ d : Int, 0 ≤ d → d < xD X → s.2 26 (12 * s.1 18 + d) = xF X d ∧ s.2 27 (12 * s.1 18 + d) = xT X d) ∧
  (∀ m : Int, 0 ≤ m → m < xM X → s.2 29 (6 * s.1 18 + m) = xRk X m ∧ s.2 30 (6 * s.1 18 + m) = xRm X m ∧ lawT s m (fun _ => 0) (xG X m)) ∧
  (∀ k : Int, 0 ≤ k → k < xK X → s.2 32 (8 * s.1 18 + k) = xHg X k ∧ s.2 33 (8 * s.1 18 + k) = xOw X k) ∧ lawT s 6 (fun v => v 2) (xL X)
def RepR (q : Int) (a : Int → Int) (mi : Int) (br sh : Int → Int) (X : Txt) (K : Crt) : Prop := mi = kMi K ∧
  (∀ m t : Int, 0 ≤ m → m < xM X → 0 ≤ t → t ≤ kMi K → a (36 * t + m) = kW K m t ∧ a (36 * t + 6 + m) = kR K m t) ∧
  (∀ k t : Int, 0 ≤ k → k < xK X → 0 ≤ t → t ≤ kMi K → a (36 * t + 12 + k) = kH K k t ∧ a (36 * t + 20 + k) = kU K k t ∧ (t ≤ q → a (36 * t + 28 + k) = kL K k t)) ∧
  ∀ k : Int, 0 ≤ k → k < xK X → br k = (if kB K k = 300 then -1 else kB K k) ∧ sh k = kF K k
/-- what is worked on -/
def RepQ (q : Int) (s : TW) (X : Txt) (K : Crt) : Prop := RepR q (s.2 56) (s.1 57) (s.2 58) (s.2 59) X K
abbrev RepW (s : TW) (X : Txt) (K : Crt) : Prop := RepQ (kMi K) s X K
/-- what is now -/
def RepN (s : TW) (X : Txt) (K : Crt) : Prop := RepR (kMi K) (s.2 52) (s.1 53) (s.2 54) (s.2 55) X K
theorem lawT.side {s s1 : TW} {k : Int} {pl : (Int → Int) → Int} {L : Lw} (h : lawT s k pl L) (e : sideText s s1) : lawT s1 k pl L := fun s' e' => h s' (e.tr e')
theorem lawT.same {s s1 : TW} {k : Int} {pl : (Int → Int) → Int} {L : Lw} (h : lawT s k pl L) (e : sameText s s1) : lawT s1 k pl L := h.side e.side
theorem RepX.same {s s1 : TW} {X : Txt} (h : RepX s X) (e : sameText s s1) : RepX s1 X := by
  obtain ⟨h1, h2, h3, h4, h5, h6⟩ := h
  have g : ∀ k : Nat, 24 ≤ k → k ≤ 46 → s1.2 k = s.2 k := e.2
  have e24 := g 24 (by decide) (by decide)
  have e25 := g 25 (by decide) (by decide)
  have e26 := g 26 (by decide) (by decide)
  have e27 := g 27 (by decide) (by decide)
  have e28 := g 28 (by decide) (by decide)
  have e29 := g 29 (by decide) (by decide)
  have e30 := g 30 (by decide) (by decide)
  have e31 := g 31 (by decide) (by decide)
  have e32 := g 32 (by decide) (by decide)
  have e33 := g 33 (by decide) (by decide)
  have e34 := g 34 (by decide) (by decide)
  have e35 := g 35 (by decide) (by decide)
  unfold RepX
  refine ⟨by rw [e.1]; exact h1, ?_, fun d a b => ?_, fun m a b => ?_, fun k a b => ?_, h6.same e⟩
  · rw [e.1]
    exact ⟨(congrFun e24 _).trans h2.1, (congrFun e25 _).trans h2.2.1, (congrFun e28 _).trans h2.2.2.1, (congrFun e31 _).trans h2.2.2.2.1, (congrFun e34 _).trans h2.2.2.2.2.1, (congrFun e35 _).trans h2.2.2.2.2.2⟩
  · rw [e.1]
    exact ⟨(congrFun e26 _).trans (h3 d a b).1, (congrFun e27 _).trans (h3 d a b).2⟩
  · rw [e.1]
    exact ⟨(congrFun e29 _).trans (h4 m a b).1, (congrFun e30 _).trans (h4 m a b).2.1, (h4 m a b).2.2.same e⟩
  · rw [e.1]
    exact ⟨(congrFun e32 _).trans (h5 k a b).1, (congrFun e33 _).trans (h5 k a b).2⟩
theorem RepX.side {s s1 : TW} {X : Txt} (h : RepX s X) (hX : WfX X) (e : sideText s s1) : RepX s1 X := by
  obtain ⟨h1, h2, h3, h4, h5, h6⟩ := h
  have a0 := hX.1
  have a1 := hX.2.1
  have a2 := hX.2.2.1
  have a3 := hX.2.2.2.1
  have g1 : ∀ k : Nat, (k, (1 : Int)) ∈ sdL → s1.2 k (s.1 18) = s.2 k (s.1 18) := fun k hk => by
    have := e.2 k 1 hk 0 (by decide) (by decide)
    rw [show (1 : Int) * s.1 18 + 0 = s.1 18 by omega] at this
    exact this
  unfold RepX
  rw [e.1]
  refine ⟨h1, ⟨(g1 24 (by decide)).trans h2.1, (g1 25 (by decide)).trans h2.2.1, (g1 28 (by decide)).trans h2.2.2.1, (g1 31 (by decide)).trans h2.2.2.2.1, (g1 34 (by decide)).trans h2.2.2.2.2.1, (g1 35 (by decide)).trans h2.2.2.2.2.2⟩, fun d a b => ⟨(e.2 26 12 (by decide) d a (by omega)).trans (h3 d a b).1, (e.2 27 12 (by decide) d a (by omega)).trans (h3 d a b).2⟩, fun m a b => ⟨(e.2 29 6 (by decide) m a (by omega)).trans (h4 m a b).1, (e.2 30 6 (by decide) m a (by omega)).trans (h4 m a b).2.1, (h4 m a b).2.2.side e⟩, fun k a b => ⟨(e.2 32 8 (by decide) k a (by omega)).trans (h5 k a b).1, (e.2 33 8 (by decide) k a (by omega)).trans (h5 k a b).2⟩, h6.side e⟩

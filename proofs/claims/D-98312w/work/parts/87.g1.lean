set_option maxRecDepth 100000
set_option maxHeartbeats 1000000
/-! ===== PURE: the whole state ===== -/
/- text, court, what can be undone (the last first), slots (held, courts), what was told, the tape (how long, bytes), place -/
abbrev Mst : Type := (Txt × Crt × List Crt) × ((Int → Int) × (Int → Crt)) × Tld × (Int × (Int → Int)) × Int
def mX (M : Mst) : Txt := M.1.1
def mK (M : Mst) : Crt := M.1.2.1
def mU (M : Mst) : List Crt := M.1.2.2
def mHd (M : Mst) : Int → Int := M.2.1.1
def mSl (M : Mst) : Int → Crt := M.2.1.2
def mT (M : Mst) : Tld := M.2.2.1
def mTn (M : Mst) : Int := M.2.2.2.1.1
def mTp (M : Mst) : Int → Int := M.2.2.2.1.2
def mPl (M : Mst) : Int := M.2.2.2.2
/-- mirrors are as late as they are -/
def LI (X : Txt) (K : Crt) : Prop := ∀ k : Int, 0 ≤ k → k < xK X → kL K k (kMi K) = lat X K k (kR K (xOw X k) (kMi K))
def OkK (X : Txt) (K : Crt) : Prop := WfK X K ∧ kSd K = xS X ∧ LI X K
/-- what was below the minute of U is so in K -/
def blw (X : Txt) (U K : Crt) : Prop := kMi U ≤ kMi K ∧ (∀ m t : Int, 0 ≤ m → m < xM X → 0 ≤ t → t < kMi U → kW U m t = kW K m t ∧ kR U m t = kR K m t) ∧ ∀ k t : Int, 0 ≤ k → k < xK X → 0 ≤ t → t < kMi U → kH U k t = kH K k t ∧ kU U k t = kU K k t ∧ kL U k t = kL K k t
def Chn (X : Txt) : Crt → List Crt → Prop
  | _, [] => True
  | K, U :: l => blw X U K ∧ Chn X U l
theorem Chn.take {X : Txt} : ∀ (n : Nat) (l : List Crt) (K : Crt), Chn X K l → Chn X K (l.take n) := by
  intro n
  induction n with
  | zero => intro l K _; rw [List.take_zero]; trivial
  | succ n ih =>
    intro l K h
    cases l with
    | nil => trivial
    | cons U l => exact ⟨h.1, ih l U h.2⟩
def WfM (M : Mst) : Prop := WfX (mX M) ∧ OkK (mX M) (mK M) ∧ ((mU M).length ≤ 20 ∧ (∀ U ∈ mU M, OkK (mX M) U) ∧ Chn (mX M) (mK M) (mU M)) ∧
  (∀ i : Int, 0 ≤ i → i < 3 → (mHd M i = 0 ∨ mHd M i = 1) ∧ (mHd M i = 1 → OkK (mX M) (mSl M i))) ∧ WfT (mX M) (mT M) ∧ ((0 ≤ mTn M ∧ mTn M ≤ 2000) ∧ ∀ i : Int, 0 ≤ i → i < mTn M → -128 ≤ mTp M i ∧ mTp M i ≤ 127) ∧ (-1 ≤ mPl M ∧ mPl M ≤ 2000)
/-- a new court, what was is kept -/
def mPush (M : Mst) (K : Crt) : Mst := ((mX M, K, (mK M :: mU M).take 20), M.2)
/-- a new court -/
def mPut (M : Mst) (K : Crt) (U : List Crt) : Mst := ((mX M, K, U), M.2)
section
variable {X : Txt} {K K' : Crt}
theorem lks_LI (hX : WfX X) (K : Crt) : LI X (lks X K) := by
  intro k k0 k1
  have a4 := hX.2.2.2.1
  obtain ⟨g1, -, -, g4, -⟩ := lkI_same X K (xK X).toNat
  have h := lkI_L X K (xK X).toNat k (kMi K) k0
  have hl := lkI_lat X K (xK X).toNat k (kR K (xOw X k) (kMi K))
  unfold lks
  rw [g1, g4, hl, h, if_pos (by omega)]
theorem lks_id (h : LI X K) : lks X K = K := by
  have key : ∀ i : Nat, (i : Int) ≤ xK X → lkI X K i = K := by
    intro i
    induction i with
    | zero => intro _; rfl
    | succ i ih =>
      intro hi
      rw [lkI, ih (by omega), ← h i (by omega) (by omega)]
      unfold setL
      have : f2 (kL K) i (kMi K) (kL K i (kMi K)) = kL K := by
        funext x y
        unfold f2
        split
        · next e => rw [e.1, e.2]
        · rfl
      rw [this]
      rfl
  unfold lks
  by_cases c : 0 ≤ xK X
  · exact key _ (by omega)
  · rw [show (xK X).toNat = 0 by omega]; rfl
theorem bI_LI (h : LI X K) : ∀ i : Nat, LI X (bI X K i) := by
  intro i k k0 k1
  have e := bI_same X K i
  have := h k k0 k1
  have e1 : kMi (bI X K i) = kMi K := by unfold kMi; rw [e.1]
  have e2 : kL (bI X K i) = kL K := by unfold kL; rw [e.2]
  have e3 : kR (bI X K i) = kR K := by unfold kR; rw [e.2]
  have e4 : kH (bI X K i) = kH K := by unfold kH; rw [e.2]
  have e5 : kW (bI X K i) = kW K := by unfold kW; rw [e.2]
  unfold lat mIn at *
  rw [e1, e2, e3, e4, e5]
  exact this
theorem stp_LI (hX : WfX X) (K : Crt) : LI X (stp X K) := bI_LI (lks_LI hX _) _
theorem rn_LI (hX : WfX X) : ∀ (n : Nat) (K : Crt), LI X K → LI X (rn X n K) := by
  intro n
  induction n with
  | zero => intro K h; exact h
  | succ n ih => intro K h; rw [rn]; exact ih _ (stp_LI hX K)
theorem rn_Ok (hX : WfX X) (h : OkK X K) {n : Nat} (hn : kMi K + n ≤ 299) : OkK X (rn X n K) := ⟨rn_wf hX n K h.1 hn, (rn_mi X n K).2.trans h.2.1, rn_LI hX n K h.2.2⟩
theorem rn_old2 (X : Txt) : ∀ (n : Nat) (K : Crt) {t : Int}, t ≤ kMi K → ∀ {m : Int}, 0 ≤ m → kW (rn X n K) m t = kW K m t ∧ kR (rn X n K) m t = kR K m t ∧ kH (rn X n K) m t = kH K m t ∧ kU (rn X n K) m t = kU K m t ∧ kL (rn X n K) m t = kL K m t := by
  intro n
  induction n with
  | zero => intro K t _ m _; exact ⟨rfl, rfl, rfl, rfl, rfl⟩
  | succ n ih =>
    intro K t ht m hm
    have h := (stp_mi X K).1
    have g := ih (stp X K) (t := t) (by omega) hm
    have g2 := stp_old X K ht m hm
    rw [rn]
    exact ⟨g.1.trans g2.1, g.2.1.trans g2.2.1, g.2.2.1.trans g2.2.2.1, g.2.2.2.1.trans g2.2.2.2.1, g.2.2.2.2.trans g2.2.2.2.2⟩
theorem rn_blw (X : Txt) (n : Nat) (K : Crt) : blw X K (rn X n K) := by
  refine ⟨by rw [(rn_mi X n K).1]; omega, fun m t b0 _ b2 b3 => ?_, fun k t b0 _ b2 b3 => ?_⟩
  · have g := rn_old2 X n K (t := t) (by omega) b0
    exact ⟨g.1.symm, g.2.1.symm⟩
  · have g := rn_old2 X n K (t := t) (by omega) b0
    exact ⟨g.2.2.1.symm, g.2.2.2.1.symm, g.2.2.2.2.symm⟩
/-- a change of the last minute alone -/
def now (X : Txt) (K K' : Crt) : Prop := K'.1 = K.1 ∧ ∀ k t : Int, 0 ≤ k → t < kMi K → kW K' k t = kW K k t ∧ kR K' k t = kR K k t ∧ kH K' k t = kH K k t ∧ kU K' k t = kU K k t ∧ kL K' k t = kL K k t
theorem now.blw (h : now X K K') : blw X K K' := by
  have e : kMi K' = kMi K := by unfold kMi; rw [h.1]
  refine ⟨by omega, fun m t b0 _ b2 b3 => ?_, fun k t b0 _ b2 b3 => ?_⟩
  · have g := h.2 m t b0 b3
    exact ⟨g.1.symm, g.2.1.symm⟩
  · have g := h.2 k t b0 b3
    exact ⟨g.2.2.1.symm, g.2.2.2.1.symm, g.2.2.2.2.symm⟩
theorem now.lk (h : now X K K') : now X K (lks X K') := by
  obtain ⟨g1, g2, g3, g4, g5, g6, -⟩ := lkI_same X K' (xK X).toNat
  have e : kMi K' = kMi K := by unfold kMi; rw [h.1]
  refine ⟨Prod.ext (g1.trans e) (g2.trans (by unfold kSd; rw [h.1])), fun k t k0 ht => ?_⟩
  have hl := lkI_L X K' (xK X).toNat k t k0
  have := h.2 k t k0 ht
  unfold lks
  rw [g3, g4, g5, g6, hl, if_neg (by omega)]
  exact this
theorem now_W (X : Txt) (K : Crt) (a v : Int) : now X K (setW K a (kMi K) v) := ⟨rfl, fun k t _ ht => ⟨f2_ne _ _ (by omega), rfl, rfl, rfl, rfl⟩⟩
theorem now_R (X : Txt) (K : Crt) (a v : Int) : now X K (setR K a (kMi K) v) := ⟨rfl, fun k t _ ht => ⟨rfl, f2_ne _ _ (by omega), rfl, rfl, rfl⟩⟩
theorem now_H (X : Txt) (K : Crt) (a v : Int) : now X K (setH K a (kMi K) v) := ⟨rfl, fun k t _ ht => ⟨rfl, rfl, f2_ne _ _ (by omega), rfl, rfl⟩⟩
theorem now_U (X : Txt) (K : Crt) (a v : Int) : now X K (setU K a (kMi K) v) := ⟨rfl, fun k t _ ht => ⟨rfl, rfl, rfl, f2_ne _ _ (by omega), rfl⟩⟩
theorem now_B (X : Txt) (K : Crt) (a u v : Int) : now X K (setB K a u v) := ⟨rfl, fun k t _ ht => ⟨rfl, rfl, rfl, rfl, rfl⟩⟩
theorem WfQ.setH {q : Int} (h : WfQ q X K) (m t : Int) {v : Int} (hv : 0 ≤ v ∧ v < xR X) : WfQ q X (setH K m t v) := by
  refine ⟨h.1, h.2.1, fun j u b0 b1 b2 b3 => ⟨?_, (h.2.2.1 j u b0 b1 b2 b3).2⟩, h.2.2.2⟩
  show 0 ≤ f2 (kH K) m t v j u ∧ f2 (kH K) m t v j u < xR X
  unfold f2
  split
  · exact hv
  · exact (h.2.2.1 j u b0 b1 b2 b3).1
theorem WfQ.setU {q : Int} (h : WfQ q X K) (m t : Int) {v : Int} (hv : v = 0 ∨ v = 1) : WfQ q X (setU K m t v) := by
  refine ⟨h.1, h.2.1, fun j u b0 b1 b2 b3 => ⟨(h.2.2.1 j u b0 b1 b2 b3).1, ?_, (h.2.2.1 j u b0 b1 b2 b3).2.2⟩, h.2.2.2⟩
  show f2 (kU K) m t v j u = 0 ∨ f2 (kU K) m t v j u = 1
  unfold f2
  split
  · exact hv
  · exact (h.2.2.1 j u b0 b1 b2 b3).2.1
theorem Ok_lks (hX : WfX X) (hw : WfQ (kMi K - 1) X K) (hs : kSd K = xS X) : OkK X (lks X K) := ⟨lks_wf hw, (lks_mi X K).2.trans hs, lks_LI hX K⟩
theorem Ok_U (h : OkK X K) (k : Int) {v : Int} (hv : v = 0 ∨ v = 1) : OkK X (setU K k (kMi K) v) := ⟨h.1.setU k _ hv, h.2.1, h.2.2⟩
theorem Ok_B (h : OkK X K) {k : Int} (h0 : 0 ≤ k) (h1 : k < xK X) : OkK X (setB K k (kMi K) (shw K k (kMi K))) := ⟨setB_wf h.1 h0 h1, h.2.1, h.2.2⟩
end
theorem WfM.push {M : Mst} (h : WfM M) {K : Crt} (hK : OkK (mX M) K) (hb : blw (mX M) (mK M) K) : WfM (mPush M K) := by
  obtain ⟨h1, h2, ⟨h3, h4, h5⟩, h6⟩ := h
  refine ⟨h1, hK, ⟨List.length_take_le _ _, fun U hU => ?_, Chn.take 20 _ K ⟨hb, h5⟩⟩, h6⟩
  have := List.mem_of_mem_take hU
  rcases List.mem_cons.mp this with h | h
  · rw [h]; exact h2
  · exact h4 U h

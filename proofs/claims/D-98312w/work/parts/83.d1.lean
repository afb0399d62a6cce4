set_option maxRecDepth 100000
set_option maxHeartbeats 4000000
/-! ===== PURE: how far rooms are ===== -/
def adj (X : Txt) (b r : Int) : Bool := decide (r ∈ dl X b (xD X).toNat)
/-- reached in n steps from fr, through rooms of A alone -/
def Rb (X : Txt) (A : Int → Bool) (fr : Int) : Nat → Int → Bool
  | 0, r => decide (r = fr) && A fr
  | n + 1, r => Rb X A fr n r || (A r && anyN (fun b => adj X b r && Rb X A fr n b) 8)
def dO (X : Txt) (A : Int → Bool) (fr r : Int) : Option Nat := fnd (fun n => Rb X A fr n r) 0 9
theorem anyN_t {P : Nat → Bool} {n : Nat} : anyN P n = true ↔ ∃ k : Nat, k < n ∧ P k = true := by
  constructor
  · intro h
    have : ¬ ∀ k : Nat, k < n → P k = false := fun g => by rw [anyN_f.mpr g] at h; cases h
    have h2 := Classical.byContradiction (p := ∃ k : Nat, k < n ∧ P k = true) fun g => this fun k hk => by
      cases hp : P k with
      | false => rfl
      | true => exact absurd ⟨k, hk, hp⟩ g
    exact h2
  · rintro ⟨k, hk, hp⟩
    cases h : anyN P n with
    | true => rfl
    | false => rw [anyN_f.mp h k hk] at hp; cases hp
section
variable {X : Txt} {A : Int → Bool} {fr : Int}
theorem dl_mem (hX : WfX X) {a b : Int} : ∀ {n : Nat}, (n : Int) ≤ xD X → (b ∈ dl X a n ↔ ∃ d : Nat, d < n ∧ ((xF X d = a ∧ xT X d = b) ∨ (xT X d = a ∧ xF X d = b))) := by
  intro n
  induction n with
  | zero => intro _; exact ⟨fun h => (by cases h), fun ⟨d, h, _⟩ => by omega⟩
  | succ n ih =>
    intro hn
    have hd := hX.2.2.2.2.2.2.1 n (by omega) (by omega)
    rw [dl, List.mem_append, ih (by omega)]
    constructor
    · rintro (⟨d, h1, h2⟩ | h)
      · exact ⟨d, by omega, h2⟩
      · split at h
        · next e => exact ⟨n, by omega, Or.inl ⟨e, (List.mem_singleton.mp h).symm⟩⟩
        · split at h
          · next e => exact ⟨n, by omega, Or.inr ⟨e, (List.mem_singleton.mp h).symm⟩⟩
          · cases h
    · rintro ⟨d, h1, h2⟩
      by_cases e : d = n
      · subst e
        right
        rcases h2 with h2 | h2
        · rw [if_pos h2.1]; exact List.mem_singleton.mpr h2.2.symm
        · rw [if_neg (by omega), if_pos h2.1]; exact List.mem_singleton.mpr h2.2.symm
      · exact Or.inl ⟨d, by omega, h2⟩
theorem adj_iff (hX : WfX X) {a b : Int} : adj X a b = true ↔ ∃ d : Nat, (d : Int) < xD X ∧ ((xF X d = a ∧ xT X d = b) ∨ (xT X d = a ∧ xF X d = b)) := by
  have a1 := hX.2.1
  unfold adj
  rw [decide_eq_true_iff, dl_mem hX (by omega)]
  constructor
  · rintro ⟨d, h1, h2⟩; exact ⟨d, by omega, h2⟩
  · rintro ⟨d, h1, h2⟩; exact ⟨d, by omega, h2⟩
theorem adj_sym (hX : WfX X) {a b : Int} (h : adj X a b = true) : adj X b a = true := by
  rw [adj_iff hX] at h ⊢
  obtain ⟨d, h1, h2⟩ := h
  exact ⟨d, h1, by omega⟩
theorem adj_in (hX : WfX X) {a b : Int} (h : adj X a b = true) : (0 ≤ a ∧ a < xR X) ∧ (0 ≤ b ∧ b < xR X) ∧ ¬ a = b := by
  rw [adj_iff hX] at h
  obtain ⟨d, h1, h2⟩ := h
  have hd := hX.2.2.2.2.2.2.1 d (by omega) h1
  omega
theorem adj_thr {r j : Int} (h0 : 1 ≤ j) (h1 : j ≤ wys X r) : adj X r (thr1 X r j) = true := by
  unfold adj thr1
  unfold wys at h1
  rw [decide_eq_true_iff, List.getD_eq_getElem?_getD, List.getElem?_eq_getElem (by omega)]
  exact List.getElem_mem _
theorem thr_adj {r b : Int} (h : adj X r b = true) : ∃ j : Nat, (j : Int) < wys X r ∧ thr1 X r ((j : Int) + 1) = b := by
  unfold adj at h
  rw [decide_eq_true_iff] at h
  obtain ⟨j, hj, e⟩ := List.mem_iff_getElem.mp h
  refine ⟨j, by unfold wys; omega, ?_⟩
  unfold thr1
  rw [show ((j : Int) + 1 - 1).toNat = j by omega, List.getD_eq_getElem?_getD, List.getElem?_eq_getElem hj, e]
  rfl
theorem Rb_s (n : Nat) (r : Int) : Rb X A fr (n + 1) r = (Rb X A fr n r || (A r && anyN (fun b => adj X b r && Rb X A fr n b) 8)) := rfl
theorem Rb_le {n m : Nat} (h : n ≤ m) {r : Int} (hr : Rb X A fr n r = true) : Rb X A fr m r = true := by
  obtain ⟨d, rfl⟩ : ∃ d, m = n + d := ⟨m - n, by omega⟩
  induction d with
  | zero => exact hr
  | succ d ih => rw [show n + (d + 1) = (n + d) + 1 by omega, Rb_s, ih (by omega), Bool.true_or]
theorem Rb_go (hX : WfX X) {n : Nat} {b r : Int} (hb : Rb X A fr n b = true) (ha : adj X b r = true) (hA : A r = true) : Rb X A fr (n + 1) r = true := by
  have hi := adj_in hX ha
  have a0 := hX.1
  rw [Rb_s, hA, Bool.true_and]
  have : anyN (fun b => adj X b r && Rb X A fr n b) 8 = true := anyN_t.mpr ⟨b.toNat, by omega, by rw [show ((b.toNat : Nat) : Int) = b by omega, ha, hb]; rfl⟩
  rw [this, Bool.or_true]
theorem Rb_in (hX : WfX X) (hf : 0 ≤ fr ∧ fr < xR X) : ∀ {n : Nat} {r : Int}, Rb X A fr n r = true → 0 ≤ r ∧ r < xR X := by
  intro n
  induction n with
  | zero =>
    intro r h
    have : r = fr := by
      unfold Rb at h
      rw [Bool.and_eq_true, decide_eq_true_iff] at h
      exact h.1
    rw [this]; exact hf
  | succ n ih =>
    intro r h
    rw [Rb_s, Bool.or_eq_true] at h
    rcases h with h | h
    · exact ih h
    · rw [Bool.and_eq_true] at h
      obtain ⟨b, hb, h2⟩ := anyN_t.mp h.2
      rw [Bool.and_eq_true] at h2
      exact (adj_in hX h2.1).2.1
/-- where a step comes from -/
theorem Rb_from {n : Nat} {r : Int} (h : Rb X A fr (n + 1) r = true) (h2 : Rb X A fr n r = false) : A r = true ∧ ∃ b : Int, adj X b r = true ∧ Rb X A fr n b = true := by
  rw [Rb_s, h2, Bool.false_or, Bool.and_eq_true] at h
  obtain ⟨b, hb, h3⟩ := anyN_t.mp h.2
  rw [Bool.and_eq_true] at h3
  exact ⟨h.1, b, h3.1, h3.2⟩
theorem Rb_A {n : Nat} {r : Int} (h : Rb X A fr n r = true) : A r = true := by
  induction n with
  | zero =>
    unfold Rb at h
    rw [Bool.and_eq_true, decide_eq_true_iff] at h
    rw [h.1]; exact h.2
  | succ n ih =>
    cases hc : Rb X A fr n r with
    | true => exact ih hc
    | false => exact (Rb_from h hc).1
/-- what stays stays -/
theorem Rb_st (hX : WfX X) {n : Nat} (h : ∀ r : Int, Rb X A fr (n + 1) r = true → Rb X A fr n r = true) : ∀ (m : Nat) (r : Int), Rb X A fr m r = true → Rb X A fr n r = true := by
  intro m
  induction m with
  | zero => intro r hr; exact Rb_le (Nat.zero_le _) hr
  | succ m ih =>
    intro r hr
    cases hc : Rb X A fr m r with
    | true => exact ih r hc
    | false =>
      obtain ⟨h1, b, h2, h3⟩ := Rb_from hr hc
      exact h r (Rb_go hX (ih b h3) h2 h1)
theorem cn_mono {P Q : Nat → Bool} (h : ∀ k, P k = true → Q k = true) : ∀ n : Nat, cn P n ≤ cn Q n := by
  intro n
  induction n with
  | zero => exact Nat.le_refl _
  | succ n ih =>
    rw [cn, cn]
    by_cases hp : P n = true
    · rw [if_pos hp, if_pos (h n hp)]; omega
    · rw [if_neg hp]; omega
theorem cn_lt {P Q : Nat → Bool} (h : ∀ k, P k = true → Q k = true) {j : Nat} (hp : P j = false) (hq : Q j = true) : ∀ n : Nat, j < n → cn P n < cn Q n := by
  intro n
  induction n with
  | zero => intro h; omega
  | succ n ih =>
    intro hj
    rw [cn, cn]
    by_cases e : j = n
    · subst e
      rw [hp, if_neg (by decide), if_pos hq]
      have := cn_mono h j
      omega
    · have := ih (by omega)
      by_cases hp : P n = true
      · rw [if_pos hp, if_pos (h n hp)]; omega
      · rw [if_neg hp]; omega
/-- eight steps are enough -/
theorem Rb_8 (hX : WfX X) (hf : 0 ≤ fr ∧ fr < xR X) {m : Nat} {r : Int} (h : Rb X A fr m r = true) : Rb X A fr 8 r = true := by
  have a0 := hX.1
  cases h8 : Rb X A fr 8 r with
  | true => rfl
  | false =>
    exfalso
    have ns : ∀ n : Nat, n ≤ 8 → ∃ r' : Int, Rb X A fr (n + 1) r' = true ∧ Rb X A fr n r' = false := by
      intro n hn
      refine Classical.byContradiction fun g => ?_
      have : ∀ r' : Int, Rb X A fr (n + 1) r' = true → Rb X A fr n r' = true := fun r' h1 => by
        cases h2 : Rb X A fr n r' with
        | true => rfl
        | false => exact absurd ⟨r', h1, h2⟩ g
      have := Rb_le hn (Rb_st hX this m r h)
      rw [h8] at this
      cases this
    have hc : ∀ n : Nat, n ≤ 9 → n ≤ cn (fun k => Rb X A fr n k) 8 := by
      intro n
      induction n with
      | zero => intro _; exact Nat.zero_le _
      | succ n ih =>
        intro hn
        obtain ⟨r', h1, h2⟩ := ns n (by omega)
        have hi := Rb_in hX hf h1
        have e : ((r'.toNat : Nat) : Int) = r' := by omega
        have := cn_lt (P := fun k : Nat => Rb X A fr n k) (Q := fun k : Nat => Rb X A fr (n + 1) k) (fun k hk => Rb_le (Nat.le_succ n) hk) (j := r'.toNat) (by rw [e]; exact h2) (by rw [e]; exact h1) 8 (by omega)
        have := ih (by omega)
        omega
    have := hc 9 (Nat.le_refl _)
    have := cn_le (fun k => Rb X A fr 9 k) 8
    omega
theorem dO_some (hX : WfX X) {r : Int} {n : Nat} (h1 : Rb X A fr n r = true) (h2 : ∀ m : Nat, m < n → Rb X A fr m r = false) (hn : n ≤ 8) : dO X A fr r = some n := by
  unfold dO
  cases hf : fnd (fun n => Rb X A fr n r) 0 9 with
  | none => rw [(fnd_n.mp hf) n (Nat.zero_le _) (by omega)] at h1; cases h1
  | some v =>
    obtain ⟨g1, g2, g3⟩ := fnd_s hf
    by_cases c : v < n
    · rw [h2 v c] at g2; cases g2
    · by_cases d : n < v
      · rw [g3 n (Nat.zero_le _) d] at h1; cases h1
      · rw [show v = n by omega]
theorem dO_none (hX : WfX X) {r : Int} (h : Rb X A fr 8 r = false) : dO X A fr r = none := by
  unfold dO
  refine fnd_n.mpr fun k _ hk => ?_
  cases hc : Rb X A fr k r with
  | false => rfl
  | true => rw [Rb_le (show k ≤ 8 by omega) hc] at h; cases h
theorem dO_spec {r : Int} {n : Nat} (h : dO X A fr r = some n) : Rb X A fr n r = true ∧ (∀ m : Nat, m < n → Rb X A fr m r = false) ∧ n ≤ 8 := by
  obtain ⟨g1, g2, g3⟩ := fnd_s h
  exact ⟨g2, fun m hm => g3 m (Nat.zero_le _) hm, by omega⟩
/-- one step nearer -/
theorem dO_near (hX : WfX X) {r : Int} {n : Nat} (h : dO X A fr r = some (n + 1)) : ∃ b : Int, adj X r b = true ∧ dO X A fr b = some n := by
  obtain ⟨h1, h2, h3⟩ := dO_spec h
  obtain ⟨hA, b, hb, hR⟩ := Rb_from h1 (h2 n (Nat.lt_succ_self n))
  refine ⟨b, adj_sym hX hb, dO_some hX hR (fun m hm => ?_) (by omega)⟩
  cases hc : Rb X A fr m b with
  | false => rfl
  | true => have := Rb_go hX hc hb hA; rw [h2 (m + 1) (by omega)] at this; cases this
/-! ===== as the component lays it: round by round ===== -/
def rlx (X : Txt) (A : Int → Bool) (r : Nat) (j : Nat) (f : Int → Int) : Int → Int := if f r < 1000000 ∧ A (thr1 X r ((j : Int) + 1)) = true then fu f (thr1 X r ((j : Int) + 1)) (if f r + 1 < f (thr1 X r ((j : Int) + 1)) then f r + 1 else f (thr1 X r ((j : Int) + 1))) else f
def rowR (X : Txt) (A : Int → Bool) (r : Nat) (f : Int → Int) : Int → Int := itr (rlx X A r) (wys X r).toNat f
def rndR (X : Txt) (A : Int → Bool) (f : Int → Int) : Int → Int := itr (rowR X A) (xR X).toNat f
def lay0 (A : Int → Bool) (fr : Int) (r : Int) : Int := if r = fr ∧ A r = true then 0 else 1000000
def layR (X : Txt) (A : Int → Bool) (fr : Int) : Int → Int := itr (fun _ f => rndR X A f) (xR X).toNat (lay0 A fr)
theorem itr_le {g : Nat → (Int → Int) → Int → Int} (h : ∀ i f r, g i f r ≤ f r) : ∀ (n : Nat) (f : Int → Int) (r : Int), itr g n f r ≤ f r := by
  intro n
  induction n with
  | zero => intro f r; exact Int.le_refl _
  | succ n ih => intro f r; exact Int.le_trans (h n _ r) (ih f r)
theorem itr_le2 {g : Nat → (Int → Int) → Int → Int} (h : ∀ i f r, g i f r ≤ f r) {m n : Nat} (hm : m ≤ n) (f : Int → Int) (r : Int) : itr g n f r ≤ itr g m f r := by
  obtain ⟨d, rfl⟩ : ∃ d, n = m + d := ⟨n - m, by omega⟩
  induction d with
  | zero => exact Int.le_refl _
  | succ d ih => exact Int.le_trans (h (m + d) _ r) (ih (by omega))
theorem itr_inv {α : Type} {g : Nat → α → α} {P : α → Prop} {N : Nat} (h : ∀ i a, i < N → P a → P (g i a)) {a : α} (ha : P a) : ∀ n : Nat, n ≤ N → P (itr g n a) := by
  intro n
  induction n with
  | zero => intro _; exact ha
  | succ n ih => intro hn; exact h n _ (by omega) (ih (by omega))
theorem rlx_le (r j : Nat) (f : Int → Int) (x : Int) : rlx X A r j f x ≤ f x := by
  unfold rlx
  split
  · by_cases e : x = thr1 X r ((j : Int) + 1)
    · rw [← e, fuE]; split <;> omega
    · rw [fuN _ _ e]; exact Int.le_refl _
  · exact Int.le_refl _
theorem rowR_le (r : Nat) (f : Int → Int) (x : Int) : rowR X A r f x ≤ f x := itr_le (fun i f r' => rlx_le r i f r') _ f x
theorem rndR_le (f : Int → Int) (x : Int) : rndR X A f x ≤ f x := itr_le (fun i f r => rowR_le i f r) _ f x
/-- what is laid is reached -/
def SndF (X : Txt) (A : Int → Bool) (fr : Int) (f : Int → Int) : Prop := ∀ r : Int, (0 ≤ f r ∧ f r ≤ 1000000) ∧ (f r < 1000000 → Rb X A fr (f r).toNat r = true)
theorem rlx_snd (hX : WfX X) {r j : Nat} (hj : (j : Int) < wys X r) {f : Int → Int} (h : SndF X A fr f) : SndF X A fr (rlx X A r j f) := by
  intro x
  unfold rlx
  split
  · next c =>
    by_cases e : x = thr1 X r ((j : Int) + 1)
    · have h1 := h r
      have h2 := h x
      rw [← e] at c ⊢
      rw [fuE]
      have ha : adj X r x = true := by rw [e]; exact adj_thr (by omega) (by omega)
      split
      · refine ⟨by omega, fun _ => ?_⟩
        have := Rb_go hX (h1.2 c.1) ha c.2
        rw [show (f r + 1).toNat = (f r).toNat + 1 by omega]
        exact this
      · exact h2
    · rw [fuN _ _ e]; exact h x
  · exact h x
theorem rowR_snd (hX : WfX X) (r : Nat) {f : Int → Int} (h : SndF X A fr f) : SndF X A fr (rowR X A r f) := itr_inv (P := SndF X A fr) (N := (wys X r).toNat) (fun j a hj ha => rlx_snd hX (by omega) ha) h _ (Nat.le_refl _)
theorem rndR_snd (hX : WfX X) {f : Int → Int} (h : SndF X A fr f) : SndF X A fr (rndR X A f) := itr_inv (P := SndF X A fr) (N := (xR X).toNat) (fun j a _ ha => rowR_snd hX j ha) h _ (Nat.le_refl _)
theorem lay0_snd : SndF X A fr (lay0 A fr) := by
  intro r
  unfold lay0
  split
  · next h =>
    refine ⟨⟨Int.le_refl _, by decide⟩, fun _ => ?_⟩
    show (decide (r = fr) && A fr) = true
    rw [← h.1, h.2]
    simp
  · exact ⟨⟨by decide, Int.le_refl _⟩, fun h => absurd h (by decide)⟩
theorem rndR_cmp (hX : WfX X) {f : Int → Int} (h : SndF X A fr f) {k : Nat} (hk : k < 1000) (hc : ∀ r : Int, ∀ n : Nat, n ≤ k → Rb X A fr n r = true → f r ≤ n) : ∀ r : Int, ∀ n : Nat, n ≤ k + 1 → Rb X A fr n r = true → rndR X A f r ≤ n := by
  intro r n hn hr
  by_cases c : n ≤ k
  · exact Int.le_trans (rndR_le f r) (hc r n c hr)
  · have e : n = k + 1 := by omega
    subst e
    cases hp : Rb X A fr k r with
    | true => have := Int.le_trans (rndR_le (X := X) (A := A) f r) (hc r k (Nat.le_refl _) hp); omega
    | false =>
      obtain ⟨hA, b, hb, hR⟩ := Rb_from hr hp
      have hi := adj_in hX hb
      have hfb := hc b k (Nat.le_refl _) hR
      obtain ⟨j, hj, ej⟩ := thr_adj hb
      have eb : ((b.toNat : Nat) : Int) = b := by omega
      -- the row of b
      have s1 : rndR X A f r ≤ itr (rowR X A) (b.toNat + 1) f r := itr_le2 (fun i f r => rowR_le i f r) (by omega) f r
      have e1 : itr (rowR X A) (b.toNat + 1) f = rowR X A b.toNat (itr (rowR X A) b.toNat f) := rfl
      have l1 : itr (rowR X A) b.toNat f b ≤ f b := itr_le (fun i f r => rowR_le i f r) _ f b
      generalize itr (rowR X A) b.toNat f = f1 at e1 l1
      have s2 : rowR X A b.toNat f1 r ≤ itr (rlx X A b.toNat) (j + 1) f1 r := itr_le2 (fun i f r' => rlx_le b.toNat i f r') (by rw [eb]; omega) f1 r
      have l2 : itr (rlx X A b.toNat) j f1 b ≤ f1 b := itr_le (fun i f r' => rlx_le b.toNat i f r') _ f1 b
      have e2 : itr (rlx X A b.toNat) (j + 1) f1 = rlx X A b.toNat j (itr (rlx X A b.toNat) j f1) := rfl
      generalize itr (rlx X A b.toNat) j f1 = f2 at e2 l2
      have s3 : rlx X A b.toNat j f2 r ≤ f2 b + 1 := by
        unfold rlx
        rw [eb, ej, if_pos ⟨by omega, hA⟩, fuE]
        split <;> omega
      rw [e1] at s1
      rw [e2] at s2
      omega
/-- what is laid in the end -/
def dC (X : Txt) (A : Int → Bool) (fr r : Int) : Int := match dO X A fr r with
  | some n => n
  | none => 1000000
theorem layR_eq (hX : WfX X) (hf : 0 ≤ fr ∧ fr < xR X) {r : Int} (r0 : 0 ≤ r) (r1 : r < xR X) : layR X A fr r = dC X A fr r := by
  have a0 := hX.1
  have hs : SndF X A fr (layR X A fr) := itr_inv (P := SndF X A fr) (N := (xR X).toNat) (fun _ a _ ha => rndR_snd hX ha) lay0_snd _ (Nat.le_refl _)
  have hk : ∀ k : Nat, k ≤ (xR X).toNat → SndF X A fr (itr (fun _ f => rndR X A f) k (lay0 A fr)) ∧ ∀ r : Int, ∀ n : Nat, n ≤ k → Rb X A fr n r = true → itr (fun _ f => rndR X A f) k (lay0 A fr) r ≤ n := by
    intro k
    induction k with
    | zero =>
      intro _
      refine ⟨lay0_snd, fun r n hn hr => ?_⟩
      have : n = 0 := by omega
      subst this
      unfold Rb at hr
      rw [Bool.and_eq_true, decide_eq_true_iff] at hr
      show lay0 A fr r ≤ 0
      unfold lay0
      rw [if_pos ⟨hr.1, by rw [hr.1]; exact hr.2⟩]
      exact Int.le_refl _
    | succ k ih =>
      intro hk
      obtain ⟨i1, i2⟩ := ih (by omega)
      exact ⟨rndR_snd hX i1, rndR_cmp hX i1 (by omega) i2⟩
  have hc := (hk (xR X).toNat (Nat.le_refl _)).2
  have h8 : ∀ n : Nat, Rb X A fr n r = true → ∃ m : Nat, m ≤ (xR X).toNat ∧ Rb X A fr m r = true := by
    -- as few steps as there are rooms
    intro n hn
    refine Classical.byContradiction fun g => ?_
    have hno : Rb X A fr (xR X).toNat r = false := by
      cases h : Rb X A fr (xR X).toNat r with
      | false => rfl
      | true => exact absurd ⟨_, Nat.le_refl _, h⟩ g
    have ns : ∀ k : Nat, k ≤ (xR X).toNat → ∃ r' : Int, Rb X A fr (k + 1) r' = true ∧ Rb X A fr k r' = false := by
      intro k hk
      refine Classical.byContradiction fun g => ?_
      have : ∀ r' : Int, Rb X A fr (k + 1) r' = true → Rb X A fr k r' = true := fun r' h1 => by
        cases h2 : Rb X A fr k r' with
        | true => rfl
        | false => exact absurd ⟨r', h1, h2⟩ g
      have := Rb_le hk (Rb_st hX this n r hn)
      rw [hno] at this
      cases this
    have hcn : ∀ k : Nat, k ≤ (xR X).toNat + 1 → k ≤ cn (fun j => Rb X A fr k j) (xR X).toNat := by
      intro k
      induction k with
      | zero => intro _; exact Nat.zero_le _
      | succ k ih =>
        intro hk
        obtain ⟨r', h1, h2⟩ := ns k (by omega)
        have hi := Rb_in hX hf h1
        have e : ((r'.toNat : Nat) : Int) = r' := by omega
        have := cn_lt (P := fun j : Nat => Rb X A fr k j) (Q := fun j : Nat => Rb X A fr (k + 1) j) (fun j hj => Rb_le (Nat.le_succ k) hj) (j := r'.toNat) (by rw [e]; exact h2) (by rw [e]; exact h1) (xR X).toNat (by omega)
        have := ih (by omega)
        omega
    have := hcn ((xR X).toNat + 1) (Nat.le_refl _)
    have := cn_le (fun j => Rb X A fr ((xR X).toNat + 1) j) (xR X).toNat
    omega
  have hr := hs r
  unfold dC
  by_cases c : layR X A fr r < 1000000
  · have hR := hr.2 c
    obtain ⟨m, hm, hRm⟩ := h8 _ hR
    have hle := hc r m hm hRm
    have hle2 : layR X A fr r ≤ m := hle
    have e : dO X A fr r = some (layR X A fr r).toNat := dO_some hX hR (fun q hq => by
      cases h : Rb X A fr q r with
      | false => rfl
      | true =>
        have h2 : layR X A fr r ≤ q := hc r q (by omega) h
        omega) (by omega)
    rw [e]
    show _ = (((layR X A fr r).toNat : Nat) : Int)
    omega
  · have e : dO X A fr r = none := by
      refine dO_none hX ?_
      cases h : Rb X A fr 8 r with
      | false => rfl
      | true =>
        obtain ⟨m, hm, hRm⟩ := h8 _ h
        have h2 : layR X A fr r ≤ m := hc r m hm hRm
        omega
    rw [e]
    show _ = (1000000 : Int)
    omega
end

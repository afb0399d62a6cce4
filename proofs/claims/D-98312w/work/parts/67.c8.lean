set_option maxRecDepth 100000
/-! ===== PURE: a court is taken over (component) ===== -/
/-- all numbers of a cell are written -/
def wrF (σ : Hp) (a : Nat) (f : Int → Int) : Hp := (fun b => if b = a then (σ.1 a).map fun c => (c.1, c.2.1, f, c.2.2.2) else σ.1 b, σ.2)
section
variable {σ τ : Hp} {a b t : Nat} {n : Int} {g : Int → Option Nat}
theorem wrF_shp (σ : Hp) (a : Nat) (f : Int → Int) (b : Nat) : shp (wrF σ a f) b = shp σ b := by
  unfold shp wrF
  by_cases e : b = a
  · subst e
    simp only [if_pos]
    cases σ.1 b <;> rfl
  · simp only [if_neg e]
theorem wrF_ci (σ : Hp) {a : Nat} (f : Int → Int) (h : shp σ a = some (t, n, g)) : ci (wrF σ a f) a = f := by
  have h1 := shp_some h
  funext j
  show (match (if a = a then (σ.1 a).map fun c => ((c.1, c.2.1, f, c.2.2.2) : Ce) else σ.1 a) with | some c => c.2.2.1 j | none => 0) = _
  rw [if_pos rfl, h1]
  rfl
theorem wrF_ne (σ : Hp) {a b : Nat} (f : Int → Int) (h : b ≠ a) : (wrF σ a f).1 b = σ.1 b := by
  show (if b = a then _ else σ.1 b) = _
  rw [if_neg h]
theorem wrF_cne (σ : Hp) {a b : Nat} (f : Int → Int) (h : b ≠ a) : ci (wrF σ a f) b = ci σ b := by
  funext j
  unfold ci
  rw [wrF_ne σ f h]
theorem chgH.wrF {S : Nat → Prop} (h : chgH S σ τ) {a : Nat} (ha : S a) (f : Int → Int) : chgH S σ (wrF τ a f) :=
  ⟨h.1, fun x => (wrF_shp τ a f x).trans (h.2.1 x), fun x hx => (wrF_ne τ f (fun e => hx (by rw [e]; exact ha))).trans (h.2.2 x hx)⟩
theorem acI_s {g' : Int → Option Nat} {n' : Int} (h : shp σ a = some (t, n, g)) (h' : shp σ b = some (t, n', g')) {m : Int} (m0 : 0 ≤ m) (m1 : m ≤ n) (m2 : m ≤ n') (m3 : m ≤ 2147483647) : acI σ t (some a) 0 (some b) 0 m = some (wrF σ b (cpI (ci σ a) (ci σ b) 0 0 m)) := by
  unfold acI
  rw [cel_s h, obS, cel_s h', obS, nrm_i (z := 0) (by decide) (by decide), nrm_i (z := m) (by omega) m3]
  dsimp only
  rw [if_pos (by omega)]
  congr 1
  unfold upc wrF
  rw [shp_some h']
  rfl
theorem cp_in (f g : Int → Int) {m k : Int} (h0 : 0 ≤ k) (h1 : k < m) : cpI f g 0 0 m k = f k := by
  unfold cpI
  rw [if_pos (by omega)]
  congr 1
  omega
end
section
variable {Z : Nat → Prop} {σ τ : Hp} {a c r : Nat} {X : Txt} {K : Crt} {q : Int}
/-- the rows of men -/
theorem h_tk18 (ha : Csh σ a) (hc : Csh σ c) (hd : a + 47 ≤ c ∨ c + 47 ≤ a) {mi : Int} (hmi : ci σ c 9 = mi) (m0 : 0 ≤ mi) (m1 : mi ≤ 299) (kk : Hp → Option Nat → Option (Unit × Hp)) :
    ∃ σ' : Hp, f_X5_takes_L18 a FU σ (some c) 0 kk = kk σ' (some c) ∧ (∀ m t : Int, 0 ≤ m → m < 6 → 0 ≤ t → t ≤ mi → ci σ' (a + 2 + m.toNat) t = ci σ (c + 2 + m.toNat) t ∧ ci σ' (a + 9 + m.toNat) t = ci σ (c + 9 + m.toNat) t) ∧ chgH (fun x => a + 2 ≤ x ∧ x < a + 15) σ σ' := by
  refine loop (S := Hp × Int) (fun n z => f_X5_takes_L18 a n z.1 (some c) z.2 kk) (fun o => ∃ σ' : Hp, o = kk σ' (some c) ∧ (∀ m t : Int, 0 ≤ m → m < 6 → 0 ≤ t → t ≤ mi → ci σ' (a + 2 + m.toNat) t = ci σ (c + 2 + m.toNat) t ∧ ci σ' (a + 9 + m.toNat) t = ci σ (c + 9 + m.toNat) t) ∧ chgH (fun x => a + 2 ≤ x ∧ x < a + 15) σ σ')
    (fun i z => z.2 = (i : Int) ∧ (∀ m t : Int, 0 ≤ m → m < i → 0 ≤ t → t ≤ mi → ci z.1 (a + 2 + m.toNat) t = ci σ (c + 2 + m.toNat) t ∧ ci z.1 (a + 9 + m.toNat) t = ci σ (c + 9 + m.toNat) t) ∧ chgH (fun x => a + 2 ≤ x ∧ x < a + 15) σ z.1) 6 ?_ ?_ 6 0 FU (σ, 0) rfl (by decide) ⟨rfl, fun _ _ _ h => by omega, chgH.rf _ _⟩
  · rintro n i ⟨z, b⟩ hi ⟨rfl, hz, hcz⟩
    dsimp only at hz hcz ⊢
    have za := ha.same hcz.2.1
    have zc := hc.same hcz.2.1
    have e9 : ci z c = ci σ c := hcz.num (by omega)
    have m9 : gI z 5 (some c) 9 = some mi := by rw [c_g zc, e9, hmi]
    obtain ⟨ga0, sa0⟩ : ∃ g, shp z (a + 2 + (i : Int).toNat) = some (101, 300, g) := by obtain ⟨-, ⟨-, f⟩, -⟩ := za; exact f i (by omega) (by omega)
    obtain ⟨ga1, sa1⟩ : ∃ g, shp z (a + 9 + (i : Int).toNat) = some (101, 300, g) := by obtain ⟨-, -, ⟨-, f⟩, -⟩ := za; exact f i (by omega) (by omega)
    obtain ⟨gc0, sc0⟩ : ∃ g, shp z (c + 2 + (i : Int).toNat) = some (101, 300, g) := by obtain ⟨-, ⟨-, f⟩, -⟩ := zc; exact f i (by omega) (by omega)
    obtain ⟨gc1, sc1⟩ : ∃ g, shp z (c + 9 + (i : Int).toNat) = some (101, 300, g) := by obtain ⟨-, -, ⟨-, f⟩, -⟩ := zc; exact f i (by omega) (by omega)
    have w1 := (chgH.rf (fun x => a + 2 ≤ x ∧ x < a + 15) z).wrF (show a + 2 ≤ a + 2 + (i : Int).toNat ∧ a + 2 + (i : Int).toNat < a + 15 by omega) (cpI (ci z (c + 2 + (i : Int).toNat)) (ci z (a + 2 + (i : Int).toNat)) 0 0 (mi + 1))
    have w2 := w1.wrF (show a + 2 ≤ a + 9 + (i : Int).toNat ∧ a + 9 + (i : Int).toNat < a + 15 by omega) (cpI (ci z (c + 9 + (i : Int).toNat)) (ci z (a + 9 + (i : Int).toNat)) 0 0 (mi + 1))
    have ya := za.same w1.2.1
    have yc := zc.same w1.2.1
    have y9 : gI (wrF z (a + 2 + (i : Int).toNat) (cpI (ci z (c + 2 + (i : Int).toNat)) (ci z (a + 2 + (i : Int).toNat)) 0 0 (mi + 1))) 5 (some c) 9 = some mi := by rw [c_g yc, wrF_cne _ _ (by omega), e9, hmi]
    right
    refine ⟨(wrF (wrF z (a + 2 + (i : Int).toNat) (cpI (ci z (c + 2 + (i : Int).toNat)) (ci z (a + 2 + (i : Int).toNat)) 0 0 (mi + 1))) (a + 9 + (i : Int).toNat) (cpI (ci z (c + 9 + (i : Int).toNat)) (ci z (a + 9 + (i : Int).toNat)) 0 0 (mi + 1)), ((i + 1 : Nat) : Int)), ?_, rfl, ?_, hcz.tr w2⟩
    · rw [f_X5_takes_L18, nrm_i (z := 6) (by decide) (by decide), nrm_i (z := (i : Int)) (by omega) (by omega), if_neg (by omega), c_g0 zc, obS, c_r0 zc (by omega) (by omega), obS, c_g0 za, obS, c_r0 za (by omega) (by omega), obS, m9, obS, acI_s sc0 sa0 (by omega) (by omega) (by omega) (by omega), obS, c_g1 yc, obS, c_r1 yc (by omega) (by omega), obS, c_g1 ya, obS, c_r1 ya (by omega) (by omega), obS, y9, obS, acI_s ((w1.2.1 _).trans sc1) ((w1.2.1 _).trans sa1) (by omega) (by omega) (by omega) (by omega), obS, wrF_cne _ _ (by omega), wrF_cne _ _ (by omega)]
      rfl
    · intro m t k0 k1 t0 t1
      dsimp only
      by_cases e : m = i
      · subst e
        rw [wrF_cne _ _ (by omega), wrF_ci (h := sa0), wrF_ci (h := (w1.2.1 _).trans sa1), cp_in _ _ t0 (by omega), cp_in _ _ t0 (by omega), hcz.num (by omega), hcz.num (by omega)]
        exact ⟨rfl, rfl⟩
      · rw [wrF_cne _ _ (by omega), wrF_cne _ _ (by omega), wrF_cne _ _ (by omega), wrF_cne _ _ (by omega)]
        exact hz m t k0 (by omega) t0 t1
  · rintro n ⟨z, b⟩ ⟨rfl, hz, hcz⟩
    dsimp only at hz hcz ⊢
    refine ⟨z, ?_, fun m t k0 k1 => hz m t k0 k1, hcz⟩
    rw [f_X5_takes_L18, if_pos (by decide)]
/-- the rows of mirrors, when they broke -/
theorem h_tk78 (ha : Csh σ a) (hc : Csh σ c) (hd : a + 47 ≤ c ∨ c + 47 ≤ a) {mi : Int} (hmi : ci σ c 9 = mi) (m0 : 0 ≤ mi) (m1 : mi ≤ 299) (kk : Hp → Option (Unit × Hp)) :
    ∃ σ' : Hp, f_X5_takes_L78 a FU σ (some c) 0 kk = kk σ' ∧ ((∀ m t : Int, 0 ≤ m → m < 8 → 0 ≤ t → t ≤ mi → ci σ' (a + 16 + m.toNat) t = ci σ (c + 16 + m.toNat) t ∧ ci σ' (a + 25 + m.toNat) t = ci σ (c + 25 + m.toNat) t ∧ ci σ' (a + 34 + m.toNat) t = ci σ (c + 34 + m.toNat) t) ∧ (∀ m : Int, 0 ≤ m → m < 8 → ci σ' (a + 42) m = ci σ (c + 42) m ∧ ci σ' (a + 43) m = ci σ (c + 43) m)) ∧ chgH (fun x => a + 16 ≤ x ∧ x < a + 44) σ σ' := by
  refine loop (S := Hp × Int) (fun n z => f_X5_takes_L78 a n z.1 (some c) z.2 kk) (fun o => ∃ σ' : Hp, o = kk σ' ∧ ((∀ m t : Int, 0 ≤ m → m < 8 → 0 ≤ t → t ≤ mi → ci σ' (a + 16 + m.toNat) t = ci σ (c + 16 + m.toNat) t ∧ ci σ' (a + 25 + m.toNat) t = ci σ (c + 25 + m.toNat) t ∧ ci σ' (a + 34 + m.toNat) t = ci σ (c + 34 + m.toNat) t) ∧ (∀ m : Int, 0 ≤ m → m < 8 → ci σ' (a + 42) m = ci σ (c + 42) m ∧ ci σ' (a + 43) m = ci σ (c + 43) m)) ∧ chgH (fun x => a + 16 ≤ x ∧ x < a + 44) σ σ')
    (fun i z => z.2 = (i : Int) ∧ ((∀ m t : Int, 0 ≤ m → m < i → 0 ≤ t → t ≤ mi → ci z.1 (a + 16 + m.toNat) t = ci σ (c + 16 + m.toNat) t ∧ ci z.1 (a + 25 + m.toNat) t = ci σ (c + 25 + m.toNat) t ∧ ci z.1 (a + 34 + m.toNat) t = ci σ (c + 34 + m.toNat) t) ∧ (∀ m : Int, 0 ≤ m → m < i → ci z.1 (a + 42) m = ci σ (c + 42) m ∧ ci z.1 (a + 43) m = ci σ (c + 43) m)) ∧ chgH (fun x => a + 16 ≤ x ∧ x < a + 44) σ z.1) 8 ?_ ?_ 8 0 FU (σ, 0) rfl (by decide) ⟨rfl, ⟨fun _ _ _ h => by omega, fun _ _ h => by omega⟩, chgH.rf _ _⟩
  · rintro n i ⟨z, b⟩ hi ⟨rfl, ⟨hz, hzb⟩, hcz⟩
    dsimp only at hz hzb hcz ⊢
    have za := ha.same hcz.2.1
    have zc := hc.same hcz.2.1
    have e9 : ci z c = ci σ c := hcz.num (by omega)
    have m9 : gI z 5 (some c) 9 = some mi := by rw [c_g zc, e9, hmi]
    obtain ⟨ga16, sa16⟩ : ∃ g, shp z (a + 16 + (i : Int).toNat) = some (101, 300, g) := by obtain ⟨-, -, -, ⟨-, f⟩, -⟩ := za; exact f i (by omega) (by omega)
    obtain ⟨ga25, sa25⟩ : ∃ g, shp z (a + 25 + (i : Int).toNat) = some (102, 300, g) := by obtain ⟨-, -, -, -, ⟨-, f⟩, -⟩ := za; exact f i (by omega) (by omega)
    obtain ⟨ga34, sa34⟩ : ∃ g, shp z (a + 34 + (i : Int).toNat) = some (103, 300, g) := by obtain ⟨-, -, -, -, -, ⟨-, f⟩, -⟩ := za; exact f i (by omega) (by omega)
    obtain ⟨gc16, sc16⟩ : ∃ g, shp z (c + 16 + (i : Int).toNat) = some (101, 300, g) := by obtain ⟨-, -, -, ⟨-, f⟩, -⟩ := zc; exact f i (by omega) (by omega)
    obtain ⟨gc25, sc25⟩ : ∃ g, shp z (c + 25 + (i : Int).toNat) = some (102, 300, g) := by obtain ⟨-, -, -, -, ⟨-, f⟩, -⟩ := zc; exact f i (by omega) (by omega)
    obtain ⟨gc34, sc34⟩ : ∃ g, shp z (c + 34 + (i : Int).toNat) = some (103, 300, g) := by obtain ⟨-, -, -, -, -, ⟨-, f⟩, -⟩ := zc; exact f i (by omega) (by omega)
    obtain ⟨ga42, sa42⟩ : ∃ g, shp z (a + 42) = some (100, 8, g) := by obtain ⟨-, -, -, -, -, -, f, -⟩ := za; exact f
    obtain ⟨ga43, sa43⟩ : ∃ g, shp z (a + 43) = some (100, 8, g) := by obtain ⟨-, -, -, -, -, -, -, f, -⟩ := za; exact f
    have w1 := (chgH.rf (fun x => a + 16 ≤ x ∧ x < a + 44) z).wrF (show a + 16 ≤ a + 16 + (i : Int).toNat ∧ a + 16 + (i : Int).toNat < a + 44 by omega) (cpI (ci z (c + 16 + (i : Int).toNat)) (ci z (a + 16 + (i : Int).toNat)) 0 0 (mi + 1))
    have w2 := w1.wrF (show a + 16 ≤ a + 25 + (i : Int).toNat ∧ a + 25 + (i : Int).toNat < a + 44 by omega) (cpI (ci z (c + 25 + (i : Int).toNat)) (ci z (a + 25 + (i : Int).toNat)) 0 0 (mi + 1))
    have w3 := w2.wrF (show a + 16 ≤ a + 34 + (i : Int).toNat ∧ a + 34 + (i : Int).toNat < a + 44 by omega) (cpI (ci z (c + 34 + (i : Int).toNat)) (ci z (a + 34 + (i : Int).toNat)) 0 0 (mi + 1))
    have w4 := w3.wr (show a + 16 ≤ a + 42 ∧ a + 42 < a + 44 by omega) i (ci σ (c + 42) i)
    have w5 := w4.wr (show a + 16 ≤ a + 43 ∧ a + 43 < a + 44 by omega) i (ci σ (c + 43) i)
    have y1a := za.same w1.2.1
    have y1c := zc.same w1.2.1
    have y2a := za.same w2.2.1
    have y2c := zc.same w2.2.1
    have y3a := za.same w3.2.1
    have y3c := zc.same w3.2.1
    have y4a := za.same w4.2.1
    have y4c := zc.same w4.2.1
    have v1 : gI (wrF z (a + 16 + (i : Int).toNat) (cpI (ci z (c + 16 + (i : Int).toNat)) (ci z (a + 16 + (i : Int).toNat)) 0 0 (mi + 1))) 5 (some c) 9 = some mi := by rw [c_g y1c, w1.num (by omega), e9, hmi]
    have v2 : gI (wrF (wrF z (a + 16 + (i : Int).toNat) (cpI (ci z (c + 16 + (i : Int).toNat)) (ci z (a + 16 + (i : Int).toNat)) 0 0 (mi + 1))) (a + 25 + (i : Int).toNat) (cpI (ci z (c + 25 + (i : Int).toNat)) (ci z (a + 25 + (i : Int).toNat)) 0 0 (mi + 1))) 5 (some c) 9 = some mi := by rw [c_g y2c, w2.num (by omega), e9, hmi]
    have f42 : ci (wrF (wrF (wrF z (a + 16 + (i : Int).toNat) (cpI (ci z (c + 16 + (i : Int).toNat)) (ci z (a + 16 + (i : Int).toNat)) 0 0 (mi + 1))) (a + 25 + (i : Int).toNat) (cpI (ci z (c + 25 + (i : Int).toNat)) (ci z (a + 25 + (i : Int).toNat)) 0 0 (mi + 1))) (a + 34 + (i : Int).toNat) (cpI (ci z (c + 34 + (i : Int).toNat)) (ci z (a + 34 + (i : Int).toNat)) 0 0 (mi + 1))) (c + 42) = ci σ (c + 42) := (w3.num (by omega)).trans (hcz.num (by omega))
    have f43 : ci (wr (wrF (wrF (wrF z (a + 16 + (i : Int).toNat) (cpI (ci z (c + 16 + (i : Int).toNat)) (ci z (a + 16 + (i : Int).toNat)) 0 0 (mi + 1))) (a + 25 + (i : Int).toNat) (cpI (ci z (c + 25 + (i : Int).toNat)) (ci z (a + 25 + (i : Int).toNat)) 0 0 (mi + 1))) (a + 34 + (i : Int).toNat) (cpI (ci z (c + 34 + (i : Int).toNat)) (ci z (a + 34 + (i : Int).toNat)) 0 0 (mi + 1))) (a + 42) i (ci σ (c + 42) i)) (c + 43) = ci σ (c + 43) := (w4.num (by omega)).trans (hcz.num (by omega))
    right
    refine ⟨((wr (wr (wrF (wrF (wrF z (a + 16 + (i : Int).toNat) (cpI (ci z (c + 16 + (i : Int).toNat)) (ci z (a + 16 + (i : Int).toNat)) 0 0 (mi + 1))) (a + 25 + (i : Int).toNat) (cpI (ci z (c + 25 + (i : Int).toNat)) (ci z (a + 25 + (i : Int).toNat)) 0 0 (mi + 1))) (a + 34 + (i : Int).toNat) (cpI (ci z (c + 34 + (i : Int).toNat)) (ci z (a + 34 + (i : Int).toNat)) 0 0 (mi + 1))) (a + 42) i (ci σ (c + 42) i)) (a + 43) i (ci σ (c + 43) i)), ((i + 1 : Nat) : Int)), ?_, rfl, ⟨?_, ?_⟩, hcz.tr w5⟩
    · rw [f_X5_takes_L78, nrm_i (z := 8) (by decide) (by decide), nrm_i (z := (i : Int)) (by omega) (by omega), if_neg (by omega), c_g2 zc, obS, c_r2 zc (by omega) (by omega), obS, c_g2 za, obS, c_r2 za (by omega) (by omega), obS, m9, obS, acI_s sc16 sa16 (by omega) (by omega) (by omega) (by omega), obS]
      rw [c_g3 y1c, obS, c_r3 y1c (by omega) (by omega), obS, c_g3 y1a, obS, c_r3 y1a (by omega) (by omega), obS, v1, obS, acI_s ((w1.2.1 _).trans sc25) ((w1.2.1 _).trans sa25) (by omega) (by omega) (by omega) (by omega), obS, wrF_cne (b := c + 25 + (i : Int).toNat) _ _ (by omega), wrF_cne (b := a + 25 + (i : Int).toNat) _ _ (by omega)]
      rw [c_g4 y2c, obS, c_r4 y2c (by omega) (by omega), obS, c_g4 y2a, obS, c_r4 y2a (by omega) (by omega), obS, v2, obS, acI_s ((w2.2.1 _).trans sc34) ((w2.2.1 _).trans sa34) (by omega) (by omega) (by omega) (by omega), obS, w2.num (a := c + 34 + (i : Int).toNat) (by omega), wrF_cne (b := a + 34 + (i : Int).toNat) _ _ (by omega), wrF_cne (b := a + 34 + (i : Int).toNat) _ _ (by omega)]
      rw [c_g5 y3a, obS, c_g5 y3c, obS, c_b y3c (by omega) (by omega), obS, f42, c_sb y3a _ (by omega) (by omega), obS, c_g6 y4a, obS, c_g6 y4c, obS, c_f y4c (by omega) (by omega), obS, f43, c_sf y4a _ (by omega) (by omega), obS]
      rfl
    · intro m t k0 k1 t0 t1
      dsimp only
      by_cases e : m = i
      · subst e
        refine ⟨?_, ?_, ?_⟩
        · rw [wr_cne (b := a + 16 + (i : Int).toNat) _ _ _ (by omega), wr_cne (b := a + 16 + (i : Int).toNat) _ _ _ (by omega), wrF_cne (b := a + 16 + (i : Int).toNat) _ _ (by omega), wrF_cne (b := a + 16 + (i : Int).toNat) _ _ (by omega), wrF_ci (h := sa16), cp_in _ _ t0 (by omega), hcz.num (by omega)]
        · rw [wr_cne (b := a + 25 + (i : Int).toNat) _ _ _ (by omega), wr_cne (b := a + 25 + (i : Int).toNat) _ _ _ (by omega), wrF_cne (b := a + 25 + (i : Int).toNat) _ _ (by omega), wrF_ci (h := (w1.2.1 _).trans sa25), cp_in _ _ t0 (by omega), hcz.num (by omega)]
        · rw [wr_cne (b := a + 34 + (i : Int).toNat) _ _ _ (by omega), wr_cne (b := a + 34 + (i : Int).toNat) _ _ _ (by omega), wrF_ci (h := (w2.2.1 _).trans sa34), cp_in _ _ t0 (by omega), hcz.num (by omega)]
      · have nn : ∀ o : Nat, o ≠ a + 16 + (i : Int).toNat → o ≠ a + 25 + (i : Int).toNat → o ≠ a + 34 + (i : Int).toNat → o ≠ a + 42 → o ≠ a + 43 → ci (wr (wr (wrF (wrF (wrF z (a + 16 + (i : Int).toNat) (cpI (ci z (c + 16 + (i : Int).toNat)) (ci z (a + 16 + (i : Int).toNat)) 0 0 (mi + 1))) (a + 25 + (i : Int).toNat) (cpI (ci z (c + 25 + (i : Int).toNat)) (ci z (a + 25 + (i : Int).toNat)) 0 0 (mi + 1))) (a + 34 + (i : Int).toNat) (cpI (ci z (c + 34 + (i : Int).toNat)) (ci z (a + 34 + (i : Int).toNat)) 0 0 (mi + 1))) (a + 42) i (ci σ (c + 42) i)) (a + 43) i (ci σ (c + 43) i)) o = ci z o := fun o h1 h2 h3 h4 h5 => by rw [wr_cne _ _ _ h5, wr_cne _ _ _ h4, wrF_cne _ _ h3, wrF_cne _ _ h2, wrF_cne _ _ h1]
        rw [nn _ (by omega) (by omega) (by omega) (by omega) (by omega), nn _ (by omega) (by omega) (by omega) (by omega) (by omega), nn _ (by omega) (by omega) (by omega) (by omega) (by omega)]
        exact hz m t k0 (by omega) t0 t1
    · intro m k0 k1
      dsimp only
      have q43 : ci (wr (wrF (wrF (wrF z (a + 16 + (i : Int).toNat) (cpI (ci z (c + 16 + (i : Int).toNat)) (ci z (a + 16 + (i : Int).toNat)) 0 0 (mi + 1))) (a + 25 + (i : Int).toNat) (cpI (ci z (c + 25 + (i : Int).toNat)) (ci z (a + 25 + (i : Int).toNat)) 0 0 (mi + 1))) (a + 34 + (i : Int).toNat) (cpI (ci z (c + 34 + (i : Int).toNat)) (ci z (a + 34 + (i : Int).toNat)) 0 0 (mi + 1))) (a + 42) i (ci σ (c + 42) i)) (a + 43) = ci z (a + 43) := by rw [wr_cne _ _ _ (by omega), wrF_cne _ _ (by omega), wrF_cne _ _ (by omega), wrF_cne _ _ (by omega)]
      have q42 : ci (wrF (wrF (wrF z (a + 16 + (i : Int).toNat) (cpI (ci z (c + 16 + (i : Int).toNat)) (ci z (a + 16 + (i : Int).toNat)) 0 0 (mi + 1))) (a + 25 + (i : Int).toNat) (cpI (ci z (c + 25 + (i : Int).toNat)) (ci z (a + 25 + (i : Int).toNat)) 0 0 (mi + 1))) (a + 34 + (i : Int).toNat) (cpI (ci z (c + 34 + (i : Int).toNat)) (ci z (a + 34 + (i : Int).toNat)) 0 0 (mi + 1))) (a + 42) = ci z (a + 42) := by rw [wrF_cne _ _ (by omega), wrF_cne _ _ (by omega), wrF_cne _ _ (by omega)]
      rw [wr_ci (h := (w4.2.1 _).trans sa43), wr_cne (b := a + 42) _ _ _ (by omega), wr_ci (h := (w3.2.1 _).trans sa42), q43, q42]
      by_cases e : m = i
      · rw [e, fuE, fuE]; exact ⟨rfl, rfl⟩
      · rw [fuN _ _ e, fuN _ _ e]
        exact hzb m k0 (by omega)
  · rintro n ⟨z, b⟩ ⟨rfl, ⟨hz, hzb⟩, hcz⟩
    dsimp only at hz hzb hcz ⊢
    refine ⟨z, ?_, ⟨fun m t k0 k1 => hz m t k0 k1, fun m k0 k1 => hzb m k0 k1⟩, hcz⟩
    rw [f_X5_takes_L78, if_pos (by decide)]
end

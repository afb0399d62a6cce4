set_option maxRecDepth 100000
/-! ===== rows of the heap ===== -/
def clsOk (t : Nat) : Prop := t ∈ aw_tags ∧ t < 100 ∧ (∀ w ∈ u_ws (aw_c t).1 (aw_c t).2.1 (aw_c t).2.2, w ∈ lw_all) ∧ (∀ k : Nat, k < (aw_c t).2.2 → parseFieldDescriptor ((aw_c t).2.1 k).2.2.1 = some (aw_ty t k)) ∧
  (∀ a : Nat, a < (aw_c t).2.2 → ∀ b : Nat, b < (aw_c t).2.2 → a ≠ b → ((aw_c t).2.1 a).2.1 ≠ ((aw_c t).2.1 b).2.1)
theorem ck0 : clsOk 0 := ⟨by decide, by decide, in_X0, tyX0_ok, nmX0⟩
theorem ck1 : clsOk 1 := ⟨by decide, by decide, in_X1, tyX1_ok, nmX1⟩
theorem ck2 : clsOk 2 := ⟨by decide, by decide, in_X2, tyX2_ok, nmX2⟩
theorem ck3 : clsOk 3 := ⟨by decide, by decide, in_X3, tyX3_ok, nmX3⟩
theorem ck4 : clsOk 4 := ⟨by decide, by decide, in_X4, tyX4_ok, nmX4⟩
theorem ck5 : clsOk 5 := ⟨by decide, by decide, in_X5, tyX5_ok, nmX5⟩
theorem ck6 : clsOk 6 := ⟨by decide, by decide, in_X6, tyX6_ok, nmX6⟩
theorem ck7 : clsOk 7 := ⟨by decide, by decide, in_X7, tyX7_ok, nmX7⟩
theorem ck8 : clsOk 8 := ⟨by decide, by decide, in_X8, tyX8_ok, nmX8⟩
theorem ck10 : clsOk 10 := ⟨by decide, by decide, in_X10, tyX10_ok, nmX10⟩
theorem ck11 : clsOk 11 := ⟨by decide, by decide, in_X11, tyX11_ok, nmX11⟩
theorem ck12 : clsOk 12 := ⟨by decide, by decide, in_X12, tyX12_ok, nmX12⟩
theorem ck14 : clsOk 14 := ⟨by decide, by decide, in_X14, tyX14_ok, nmX14⟩
theorem ck15 : clsOk 15 := ⟨by decide, by decide, in_X15, tyX15_ok, nmX15⟩
theorem ck16 : clsOk 16 := ⟨by decide, by decide, in_X16, tyX16_ok, nmX16⟩
theorem ck17 : clsOk 17 := ⟨by decide, by decide, in_X17, tyX17_ok, nmX17⟩
theorem ck18 : clsOk 18 := ⟨by decide, by decide, in_J5, tyJ5_ok, nmJ5⟩
theorem ck19 : clsOk 19 := ⟨by decide, by decide, in_J14, tyJ14_ok, nmJ14⟩
theorem ck20 : clsOk 20 := ⟨by decide, by decide, in_J10, tyJ10_ok, nmJ10⟩
theorem ck50 : clsOk 50 := ⟨by decide, by decide, fun w h => in_J10 w (by
    simp only [u_ws, List.mem_map, List.mem_range] at h ⊢
    obtain ⟨k, hk, e⟩ := h
    exact ⟨k, Nat.lt_of_lt_of_le hk (by decide), e⟩), fun k hk => tyJ10_ok k (Nat.lt_of_lt_of_le hk (by decide)), fun a ha b hb => nmJ10 a (Nat.lt_of_lt_of_le ha (by decide)) b (Nat.lt_of_lt_of_le hb (by decide))⟩
theorem ob_some {α β : Type} {x : Option α} {f : α → Option β} {b : β} (h : x.bind f = some b) : ∃ a, x = some a ∧ f a = some b := by
  cases x with
  | none => cases h
  | some a => exact ⟨a, rfl, h⟩
theorem cel_some {σ : Hp} {t : Nat} {r : Option Nat} {q : Nat × Ce} (h : cel σ t r = some q) : r = some q.1 ∧ σ.1 q.1 = some q.2 ∧ q.2.1 = t := by
  unfold cel at h
  obtain ⟨a, ha, h9⟩ := ob_some h
  obtain ⟨c, hc, h8⟩ := ob_some h9
  by_cases e : c.1 = t
  · rw [if_pos e] at h8
    cases h8
    exact ⟨ha, hc, e⟩
  · rw [if_neg e] at h8
    cases h8
section
variable {M : Mi} {σ0 : Hp} {out : Ot} {pc : Nat} {L : List (Option AV)} {st : List AV} {σ : Hp}
theorem fld_get {p : Program} {l : Launch} {e : Env} {R : Room} {s : State} {m : MethodId} {args : Array Value} {below : List Frame} {meth : Method} {c : Code} {H : Heap} {locs : List Loc} {cells slots : Nat} {Q : State → Prop} {ls : Array Slot} {rest : List Value} {D : va_G} {A : Nat → Prop} {index t k a : Nat} {x : Ce} {ref : String}
    (O : Ok M σ0 out.2 p l e R s m args below meth c D A) (hc : hld D A s H a x) (hx : x.1 = t) (ck : clsOk t) (hk : k < (aw_c t).2.2)
    (q : Cond.fieldLink M.1.cls index ref ((aw_c t).2.1 k).2.1 ((aw_c t).2.1 k).2.2.1 ∈ lw_all) (hs : ref = ((aw_c t).2.1 k).1 ∨ Cond.sameField ref ((aw_c t).2.1 k).1 ((aw_c t).2.1 k).2.1 ((aw_c t).2.1 k).2.2.1 ∈ lw_all) (d : decode M.2.1 pc = .ok (.getfield index, 3))
    (w : W p l e R s m args below meth c H locs cells slots Q (F0 m (pc + 3) ls (mv (aw_ty t k) x k :: rest))) : W p l e R s m args below meth c H locs cells slots Q (F0 m pc ls (.ref a :: rest)) := by
  subst hx
  obtain ⟨cell, h1, h2, h3, h4, h5, -⟩ := hc
  obtain ⟨h5, h6⟩ := h5 ck.2.1
  obtain ⟨hS, hfc, kC, hkC, hkind⟩ := O.2.2.2.1 _ ck.1
  obtain ⟨cf, kf, fi, f, hi, hsl⟩ := hS k hk
  have hi' : s.fieldFound? ref ((aw_c x.1).2.1 k).2.1 ((aw_c x.1).2.1 k).2.2.1 = some (cf, kf, fi, f) := by
    rcases hs with hs | hs
    · rw [hs]; exact hi
    · exact u_same (O.1.2.2.2.2.2 _ hs) _ hi
  refine W.getf O.1.1 O.1.2.1 O.1.2.2.2.2.1 (O.1.2.2.2.2.2 _ q) hi' (u_facts hfc hkC (u_lays O.1.2.2.2.2.2 ck.2.2.1 hk) hi).1 h1 h3 ?_ rfl rfl d w
  rw [hsl]
  exact h6 k hk
theorem AW.getI {β : Type} {F : Int → Option β} {w : β} {index t k : Nat} {r : Option Nat} {ref : String} (d : decode M.2.1 pc = .ok (.getfield index, 3)) (ck : clsOk t) (hk : k < (aw_c t).2.2) (hm : ∀ c : Ce, mv (aw_ty t k) c k = .int (iI (c.2.2.1 k)))
    (q : Cond.fieldLink M.1.cls index ref ((aw_c t).2.1 k).2.1 ((aw_c t).2.1 k).2.2.1 ∈ lw_all) (hs : ref = ((aw_c t).2.1 k).1 ∨ Cond.sameField ref ((aw_c t).2.1 k).1 ((aw_c t).2.1 k).2.1 ((aw_c t).2.1 k).2.2.1 ∈ lw_all)
    (h : (gI σ t r k).bind F = some w) (kk : ∀ v : Int, F v = some w → AW M σ0 out (pc + 3) L (iV v :: st) σ) : AW M σ0 out pc L (rV r :: st) σ := by
  obtain ⟨v, hv, h9⟩ := ob_some h
  unfold gI at hv
  obtain ⟨x, hx, hw⟩ := ob_some hv
  obtain ⟨rfl, h2, h3⟩ := cel_some hx
  cases hw
  refine AW.sim (kk _ h9) fun p l e R s m args below meth c D A O H locs ls cells slots Q h0 hR hS hL w => ?_
  exact fld_get O (hR.2 _ _ h2) h3 ck hk q hs d (by rw [hm]; exact w)
theorem AW.getR {β : Type} {F : Option Nat → Option β} {w : β} {index t k : Nat} {r : Option Nat} {ref : String} (d : decode M.2.1 pc = .ok (.getfield index, 3)) (ck : clsOk t) (hk : k < (aw_c t).2.2) (hm : ∀ c : Ce, mv (aw_ty t k) c k = va_rf (c.2.2.2 k))
    (q : Cond.fieldLink M.1.cls index ref ((aw_c t).2.1 k).2.1 ((aw_c t).2.1 k).2.2.1 ∈ lw_all) (hs : ref = ((aw_c t).2.1 k).1 ∨ Cond.sameField ref ((aw_c t).2.1 k).1 ((aw_c t).2.1 k).2.1 ((aw_c t).2.1 k).2.2.1 ∈ lw_all)
    (h : (gR σ t r k).bind F = some w) (kk : ∀ v : Option Nat, F v = some w → AW M σ0 out (pc + 3) L (rV v :: st) σ) : AW M σ0 out pc L (rV r :: st) σ := by
  obtain ⟨v, hv, h9⟩ := ob_some h
  unfold gR at hv
  obtain ⟨x, hx, hw⟩ := ob_some hv
  obtain ⟨rfl, h2, h3⟩ := cel_some hx
  cases hw
  refine AW.sim (kk _ h9) fun p l e R s m args below meth c D A O H locs ls cells slots Q h0 hR hS hL w => ?_
  exact fld_get O (hR.2 _ _ h2) h3 ck hk q hs d (by rw [hm]; exact w)
/-- a step that writes one cell -/
theorem AW.wrt {pc' : Nat} {st' : List AV} {a : Nat} {x : Ce} (k : AW M σ0 out pc' L st' (upc σ a x))
    (f : ∀ (p : Program) (l : Launch) (e : Env) (R : Room) (s : State) (m : MethodId) (args : Array Value) (below : List Frame) (meth : Method) (c : Code) (D : va_G) (A : Nat → Prop), Ok M σ0 out.2 p l e R s m args below meth c D A →
      ∀ (H : Heap) (locs : List Loc) (ls : Array Slot) (cells slots : Nat) (Q : State → Prop), RH D A s H σ → A a →
        (∀ (H1 : Heap) (i : Nat), H1.size = H.size → (∀ q : Nat, q ≠ a → H1[q]? = H[q]?) → hld D A s H1 a x → W p l e R s m args below meth c H1 (locs ++ [⟨a, i⟩]) cells slots Q (F0 m pc' ls (st'.map tv))) → W p l e R s m args below meth c H locs cells slots Q (F0 m pc ls (st.map tv)))
    {x0 : Ce} (h0a : σ.1 a = some x0) (hmu : mutT x0.1) : AW M σ0 out pc L st σ := by
  refine ⟨k.1, fun p l e R s m args below meth c D A O H locs ls h0 hR hS hL => ?_⟩
  have hA : A a := by
    obtain ⟨cell, -, -, -, h4, -⟩ := hR.2 a x0 h0a
    exact (h4 hmu).1
  exact f p l e R s m args below meth c D A O H locs ls _ _ _ hR hA (fun H1 i hz oq hh => k.2 p l e R s m args below meth c D A O H1 _ ls h0 (hR.upd hz oq hh) (hS.put hz oq hA) hL)
theorem fld_put {p : Program} {l : Launch} {e : Env} {R : Room} {s : State} {m : MethodId} {args : Array Value} {below : List Frame} {meth : Method} {c : Code} {H : Heap} {locs : List Loc} {cells slots : Nat} {Q : State → Prop} {ls : Array Slot} {rest : List Value} {D : va_G} {A : Nat → Prop} {index t k a : Nat} {x x' : Ce} {ref : String} {v : Value}
    (O : Ok M σ0 out.2 p l e R s m args below meth c D A) (hc : hld D A s H a x) (hx : x.1 = t) (hx' : x'.1 = t) (hmu : mutT t) (ck : clsOk t) (hk : k < (aw_c t).2.2)
    (q : Cond.fieldLink M.1.cls index ref ((aw_c t).2.1 k).2.1 ((aw_c t).2.1 k).2.2.1 ∈ lw_all) (hs : ref = ((aw_c t).2.1 k).1 ∨ Cond.sameField ref ((aw_c t).2.1 k).1 ((aw_c t).2.1 k).2.1 ((aw_c t).2.1 k).2.2.1 ∈ lw_all)
    (hfin : ((aw_c t).2.1 k).2.2.2 = false ∨ (M.1.name = "<init>" ∧ ((aw_c t).2.1 k).1 = M.1.cls)) (hn : narrow (aw_ty t k) v = v) (hfit : fits (aw_ty t k) v = true) (hv : mv (aw_ty t k) x' k = v) (ho : ∀ j : Nat, j ≠ k → mv (aw_ty t j) x' j = mv (aw_ty t j) x j) (d : decode M.2.1 pc = .ok (.putfield index, 3))
    (w : ∀ (H1 : Heap) (i : Nat), H1.size = H.size → (∀ q : Nat, q ≠ a → H1[q]? = H[q]?) → hld D A s H1 a x' → W p l e R s m args below meth c H1 (locs ++ [⟨a, i⟩]) cells slots Q (F0 m (pc + 3) ls rest)) : W p l e R s m args below meth c H locs cells slots Q (F0 m pc ls (v :: .ref a :: rest)) := by
  subst hx
  obtain ⟨cell, h1, h2, h3, h4, h5, -⟩ := hc
  obtain ⟨h5, h6⟩ := h5 ck.2.1
  obtain ⟨hAa, hvm⟩ := h4 hmu
  have hts := O.1.2.2.2.2.2
  have hKn := O.2.2.2.1 _ ck.1
  obtain ⟨hS, hfc, kC, hkC, hkind⟩ := hKn
  have hap : ∀ y z, y < (aw_c x.1).2.2 → z < (aw_c x.1).2.2 → y ≠ z → D.2 x.1 y ≠ D.2 x.1 z := by
    intro y z hy hz hne
    obtain ⟨_, _, _, fa, hia, ea⟩ := hS y hy
    obtain ⟨_, _, _, fb, hib, eb⟩ := hS z hz
    rw [← ea, ← eb]
    refine u_apart (u_lays hts ck.2.2.1 hy) (u_lays hts ck.2.2.1 hz) hia hib ?_
    rw [(State.fieldFound?_type hia (ck.2.2.2.1 y hy)).1, (State.fieldFound?_type hib (ck.2.2.2.1 z hz)).1]
    exact ck.2.2.2.2 y hy z hz hne
  obtain ⟨cf, kf, fi, f, hi, hsl⟩ := hS k hk
  have hi' : s.fieldFound? ref ((aw_c x.1).2.1 k).2.1 ((aw_c x.1).2.1 k).2.2.1 = some (cf, kf, fi, f) := by
    rcases hs with hs | hs
    · rw [hs]; exact hi
    · exact u_same (hts _ hs) _ hi
  have hlay := hts _ (ck.2.2.1 _ (u_in_lay hk))
  have hst := (u_facts hfc hkC (u_lays hts ck.2.2.1 hk) hi).1
  have hd := ck.2.2.2.1 k hk
  have fin : ∀ H' : Heap, H'[a]? = some (cell.setSlot f.slot v) → H'.size = H.size → (∀ q, q ≠ a → H'[q]? = H[q]?) → W p l e R s m args below meth c H' (locs ++ [⟨a, f.slot⟩]) cells slots Q (F0 m (pc + 3) ls rest) := by
    intro H' e1 e2 e3
    refine w H' f.slot e2 e3 ⟨_, e1, h2, h3, fun _ => ⟨hAa, hvm⟩, fun _ => ⟨?_, fun j hj => ?_⟩, fun h100 => ?_⟩
    · rw [hx']; exact h5
    · rw [hx'] at hj ⊢
      rw [hsl]
      refine (t_set (V := fun k => mv (aw_ty x.1 k) x k) h6 hap hk v j hj).trans ?_
      by_cases e : j = k
      · subst e
        simp [updV, hv]
      · simp [updV, e, ho j e]
    · rw [hx'] at h100
      have := ck.2.1
      omega
  rcases hfin with hfin | ⟨hfin, hdecl⟩
  · by_cases hF : ((aw_c x.1).2.1 k).2.2.2 = true
    · rw [hF] at hfin; cases hfin
    · unfold u_lay at hlay
      rw [if_neg hF] at hlay
      have h7 := u_store hfc hkC hkind hlay hi hd hn hfit
      exact W.putK O.1.1 O.1.2.1 (f := f) ⟨O.1.2.2.2.2.1, hts _ q, ⟨_, _, _, hi'⟩, hst⟩ (by rw [h5]; exact h7) h1 hvm (by rw [hsl]; exact k2_hasslot (h6 k hk)) rfl rfl d fin
  · by_cases hF : ((aw_c x.1).2.1 k).2.2.2 = true
    · unfold u_lay at hlay
      rw [if_pos hF] at hlay
      have hcf : m.cls = cf := by
        obtain ⟨_, _, c', _, _, _, -, -, hf', -, -, -, hown2, -⟩ := Cond.laysFinal_spec hlay
        have e1 : c' = cf := by have := hi.symm.trans hf'; simp at this; exact this.1.symm
        rw [hdecl] at hown2
        rw [← e1]; exact Option.some.inj (O.1.2.2.2.2.1.symm.trans hown2)
      have h7 := u_fits hfc hkC hkind (Or.inr hlay) hi hd hn hfit
      exact W.putFinK O.1.1 O.1.2.1 O.1.2.2.2.2.1 (hts _ q) hi' hst hcf (O.2.1.2.1.trans hfin) (by rw [h5]; exact h7) h1 hvm (by rw [hsl]; exact k2_hasslot (h6 k hk)) rfl rfl d fin
    · unfold u_lay at hlay
      rw [if_neg hF] at hlay
      have h7 := u_store hfc hkC hkind hlay hi hd hn hfit
      exact W.putK O.1.1 O.1.2.1 (f := f) ⟨O.1.2.2.2.2.1, hts _ q, ⟨_, _, _, hi'⟩, hst⟩ (by rw [h5]; exact h7) h1 hvm (by rw [hsl]; exact k2_hasslot (h6 k hk)) rfl rfl d fin
end
theorem mv_fuI {ty : FieldType} {t : Nat} {n : Int} {f : Int → Int} {g : Int → Option Nat} {k j v : Int} (h : j ≠ k) : mv ty (t, n, fu f k v, g) j = mv ty (t, n, f, g) j := by
  cases ty <;> simp [mv, fu, h]
theorem mv_fuR {ty : FieldType} {t : Nat} {n : Int} {f : Int → Int} {g : Int → Option Nat} {k j : Int} {v : Option Nat} (h : j ≠ k) : mv ty (t, n, f, fu g k v) j = mv ty (t, n, f, g) j := by
  cases ty <;> simp [mv, fu, h]
theorem fu_self {α : Type} (f : Int → α) (k : Int) (v : α) : fu f k v k = v := by simp [fu]
theorem fu_ne {α : Type} (f : Int → α) {k j : Int} (v : α) (h : j ≠ k) : fu f k v j = f j := by simp [fu, h]
theorem iI_lo {v : Int} {n : Int} (hn : -2147483648 ≤ n) (hn2 : n < 2147483648) (h : n ≤ nrm v) : Int32.ofInt n ≤ iI v := by
  rw [Int32.le_iff_toInt_le, Int32.toInt_ofInt_of_le hn hn2]
  exact h
theorem iI_hi {v : Int} {n : Int} (hn : -2147483648 ≤ n) (hn2 : n < 2147483648) (h : nrm v ≤ n) : iI v ≤ Int32.ofInt n := by
  rw [Int32.le_iff_toInt_le, Int32.toInt_ofInt_of_le hn hn2]
  exact h
theorem nar_Z {v : Int} (h : nrm v = 0 ∨ nrm v = 1) : narrow .boolean (.int (iI v)) = .int (iI v) ∧ fits .boolean (.int (iI v)) = true := by
  rw [← iI_nrm v]
  rcases h with h | h <;> rw [h] <;> decide
theorem nar_B {v : Int} (h : -128 ≤ nrm v ∧ nrm v ≤ 127) : narrow .byte (.int (iI v)) = .int (iI v) ∧ fits .byte (.int (iI v)) = true := by
  rw [← iI_nrm v]
  obtain ⟨h1, h2⟩ := h
  generalize nrm v = z at h1 h2
  obtain ⟨n, rfl⟩ : ∃ n : Nat, z = (n : Int) - 128 := ⟨(z + 128).toNat, by omega⟩
  have hn : n < 256 := by omega
  have key : ∀ n : Fin 256, narrow .byte (.int (iI ((n.val : Int) - 128))) = .int (iI ((n.val : Int) - 128)) ∧ fits .byte (.int (iI ((n.val : Int) - 128))) = true := by decide +kernel
  exact key ⟨n, hn⟩
section
variable {M : Mi} {σ0 : Hp} {out : Ot} {pc : Nat} {L : List (Option AV)} {st : List AV} {σ : Hp}
theorem AW.putI0 {β : Type} {F : Hp → Option β} {w : β} {index t k : Nat} {r : Option Nat} {v : Int} {ref : String} (d : decode M.2.1 pc = .ok (.putfield index, 3)) (ck : clsOk t) (hmu : mutT t) (hk : k < (aw_c t).2.2) (hm : ∀ c : Ce, mv (aw_ty t k) c k = .int (iI (c.2.2.1 k)))
    (hn : narrow (aw_ty t k) (.int (iI v)) = .int (iI v)) (hfit : fits (aw_ty t k) (.int (iI v)) = true)
    (q : Cond.fieldLink M.1.cls index ref ((aw_c t).2.1 k).2.1 ((aw_c t).2.1 k).2.2.1 ∈ lw_all) (hs : ref = ((aw_c t).2.1 k).1 ∨ Cond.sameField ref ((aw_c t).2.1 k).1 ((aw_c t).2.1 k).2.1 ((aw_c t).2.1 k).2.2.1 ∈ lw_all)
    (hfin : ((aw_c t).2.1 k).2.2.2 = false ∨ (M.1.name = "<init>" ∧ ((aw_c t).2.1 k).1 = M.1.cls))
    (h : (pI σ t r k v).bind F = some w) (kk : ∀ σ1 : Hp, F σ1 = some w → AW M σ0 out (pc + 3) L st σ1) : AW M σ0 out pc L (iV v :: rV r :: st) σ := by
  obtain ⟨σ1, hv, h9⟩ := ob_some h
  unfold pI at hv
  obtain ⟨x, hx, hw⟩ := ob_some hv
  obtain ⟨rfl, h2, h3⟩ := cel_some hx
  cases hw
  obtain ⟨a, x1, n, f, g⟩ := x
  have h3 : x1 = t := h3
  subst h3
  refine AW.wrt (kk _ h9) (fun p l e R s m args below meth c D A O H locs ls cells slots Q hR hA w => ?_) h2 hmu
  exact fld_put (x' := (x1, n, fu f k v, g)) O (hR.2 _ _ h2) rfl rfl hmu ck hk q hs hfin hn hfit (v := .int (iI v)) (by rw [hm]; show Value.int (iI (fu f k v k)) = _; rw [fu_self]) (fun j hj => mv_fuI (by omega)) d w
theorem AW.putI {β : Type} {F : Hp → Option β} {w : β} {index t k : Nat} {r : Option Nat} {v : Int} {ref : String} (d : decode M.2.1 pc = .ok (.putfield index, 3)) (ck : clsOk t) (hmu : mutT t) (hk : k < (aw_c t).2.2) (hty : aw_ty t k = .int)
    (q : Cond.fieldLink M.1.cls index ref ((aw_c t).2.1 k).2.1 ((aw_c t).2.1 k).2.2.1 ∈ lw_all) (hs : ref = ((aw_c t).2.1 k).1 ∨ Cond.sameField ref ((aw_c t).2.1 k).1 ((aw_c t).2.1 k).2.1 ((aw_c t).2.1 k).2.2.1 ∈ lw_all)
    (hfin : ((aw_c t).2.1 k).2.2.2 = false ∨ (M.1.name = "<init>" ∧ ((aw_c t).2.1 k).1 = M.1.cls))
    (h : (pI σ t r k v).bind F = some w) (kk : ∀ σ1 : Hp, F σ1 = some w → AW M σ0 out (pc + 3) L st σ1) : AW M σ0 out pc L (iV v :: rV r :: st) σ :=
  AW.putI0 d ck hmu hk (fun c => by rw [hty]; rfl) (by rw [hty]; rfl) (by rw [hty]; rfl) q hs hfin h kk
theorem AW.putZ {β : Type} {F : Hp → Option β} {w : β} {index t k : Nat} {r : Option Nat} {v : Int} {ref : String} (d : decode M.2.1 pc = .ok (.putfield index, 3)) (ck : clsOk t) (hmu : mutT t) (hk : k < (aw_c t).2.2) (hty : aw_ty t k = .boolean)
    (q : Cond.fieldLink M.1.cls index ref ((aw_c t).2.1 k).2.1 ((aw_c t).2.1 k).2.2.1 ∈ lw_all) (hs : ref = ((aw_c t).2.1 k).1 ∨ Cond.sameField ref ((aw_c t).2.1 k).1 ((aw_c t).2.1 k).2.1 ((aw_c t).2.1 k).2.2.1 ∈ lw_all)
    (hfin : ((aw_c t).2.1 k).2.2.2 = false ∨ (M.1.name = "<init>" ∧ ((aw_c t).2.1 k).1 = M.1.cls))
    (h : (pZ σ t r k v).bind F = some w) (kk : ∀ σ1 : Hp, F σ1 = some w → AW M σ0 out (pc + 3) L st σ1) : AW M σ0 out pc L (iV v :: rV r :: st) σ := by
  by_cases hz : nrm v = 0 ∨ nrm v = 1
  · unfold pZ at h
    rw [if_pos hz] at h
    exact AW.putI0 d ck hmu hk (fun c => by rw [hty]; rfl) (by rw [hty]; exact (nar_Z hz).1) (by rw [hty]; exact (nar_Z hz).2) q hs hfin h kk
  · unfold pZ at h
    rw [if_neg hz] at h
    cases h
theorem AW.putB {β : Type} {F : Hp → Option β} {w : β} {index t k : Nat} {r : Option Nat} {v : Int} {ref : String} (d : decode M.2.1 pc = .ok (.putfield index, 3)) (ck : clsOk t) (hmu : mutT t) (hk : k < (aw_c t).2.2) (hty : aw_ty t k = .byte)
    (q : Cond.fieldLink M.1.cls index ref ((aw_c t).2.1 k).2.1 ((aw_c t).2.1 k).2.2.1 ∈ lw_all) (hs : ref = ((aw_c t).2.1 k).1 ∨ Cond.sameField ref ((aw_c t).2.1 k).1 ((aw_c t).2.1 k).2.1 ((aw_c t).2.1 k).2.2.1 ∈ lw_all)
    (hfin : ((aw_c t).2.1 k).2.2.2 = false ∨ (M.1.name = "<init>" ∧ ((aw_c t).2.1 k).1 = M.1.cls))
    (h : (pB σ t r k v).bind F = some w) (kk : ∀ σ1 : Hp, F σ1 = some w → AW M σ0 out (pc + 3) L st σ1) : AW M σ0 out pc L (iV v :: rV r :: st) σ := by
  by_cases hz : -128 ≤ nrm v ∧ nrm v ≤ 127
  · unfold pB at h
    rw [if_pos hz] at h
    exact AW.putI0 d ck hmu hk (fun c => by rw [hty]; rfl) (by rw [hty]; exact (nar_B hz).1) (by rw [hty]; exact (nar_B hz).2) q hs hfin h kk
  · unfold pB at h
    rw [if_neg hz] at h
    cases h
theorem AW.putR {β : Type} {F : Hp → Option β} {w : β} {index t k : Nat} {r v : Option Nat} {ref : String} (d : decode M.2.1 pc = .ok (.putfield index, 3)) (ck : clsOk t) (hmu : mutT t) (hk : k < (aw_c t).2.2) (hty : (∃ C, aw_ty t k = .object C) ∨ ∃ C, aw_ty t k = .array C)
    (q : Cond.fieldLink M.1.cls index ref ((aw_c t).2.1 k).2.1 ((aw_c t).2.1 k).2.2.1 ∈ lw_all) (hs : ref = ((aw_c t).2.1 k).1 ∨ Cond.sameField ref ((aw_c t).2.1 k).1 ((aw_c t).2.1 k).2.1 ((aw_c t).2.1 k).2.2.1 ∈ lw_all)
    (hfin : ((aw_c t).2.1 k).2.2.2 = false ∨ (M.1.name = "<init>" ∧ ((aw_c t).2.1 k).1 = M.1.cls))
    (h : (pR σ t r k v).bind F = some w) (kk : ∀ σ1 : Hp, F σ1 = some w → AW M σ0 out (pc + 3) L st σ1) : AW M σ0 out pc L (rV v :: rV r :: st) σ := by
  obtain ⟨σ1, hv, h9⟩ := ob_some h
  unfold pR at hv
  obtain ⟨x, hx, hw⟩ := ob_some hv
  obtain ⟨rfl, h2, h3⟩ := cel_some hx
  cases hw
  obtain ⟨a, x1, n, f, g⟩ := x
  have h3 : x1 = t := h3
  subst h3
  refine AW.wrt (kk _ h9) (fun p l e R s m args below meth c D A O H locs ls cells slots Q hR hA w => ?_) h2 hmu
  refine fld_put (x' := (x1, n, f, fu g k v)) O (hR.2 _ _ h2) rfl rfl hmu ck hk q hs hfin ?_ ?_ ?_ (fun j hj => mv_fuR (by omega)) d w
  · rcases hty with ⟨C, hty⟩ | ⟨C, hty⟩ <;> rw [hty] <;> cases v <;> rfl
  · rcases hty with ⟨C, hty⟩ | ⟨C, hty⟩ <;> rw [hty] <;> cases v <;> rfl
  · rcases hty with ⟨C, hty⟩ | ⟨C, hty⟩ <;> rw [hty] <;> (show va_rf (fu g k v k) = va_rf v) <;> rw [fu_self]
end

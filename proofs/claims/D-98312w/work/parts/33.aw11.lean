set_option maxRecDepth 100000
/-! ===== small lemmas for the printed walks over the heap ===== -/
def pN (σ : Hp) (r v : Option Nat) : Option Hp := (kst σ [10, 11, 17] r).bind fun r => r.bind fun a => (σ.1 a).bind fun c => some (upc σ a (c.1, c.2.1, c.2.2.1, fu c.2.2.2 0 v))
theorem ca10 : castOk [10] "LateMirrors$Room" := fun t h => by rcases List.mem_singleton.mp h with rfl; exact ⟨ck10, Or.inl rfl⟩
theorem ca11 : castOk [11] "LateMirrors$Man" := fun t h => by rcases List.mem_singleton.mp h with rfl; exact ⟨ck11, Or.inl rfl⟩
theorem ca17 : castOk [17] "LateMirrors$Mirror" := fun t h => by rcases List.mem_singleton.mp h with rfl; exact ⟨ck17, Or.inl rfl⟩
theorem ca20 : castOk [20] "java/lang/String" := fun t h => by rcases List.mem_singleton.mp h with rfl; exact ⟨ck20, Or.inl rfl⟩
theorem is20 : ∀ t ∈ [20], clsOk t ∧ (aw_c t).1 = "java/lang/String" := fun t h => by rcases List.mem_singleton.mp h with rfl; exact ⟨ck20, rfl⟩
theorem caN : castOk [10, 11, 17] "LateMirrors$Named" := fun t h => by
  simp only [List.mem_cons, List.not_mem_nil, or_false] at h
  rcases h with rfl | rfl | rfl
  · exact ⟨ck10, Or.inr (by decide)⟩
  · exact ⟨ck11, Or.inr (by decide)⟩
  · exact ⟨ck17, Or.inr (by decide)⟩
theorem AW.putN {M : Mi} {σ0 : Hp} {out : Ot} {pc : Nat} {L : List (Option AV)} {st : List AV} {σ : Hp} {β : Type} {F : Hp → Option β} {w : β} {index : Nat} {r v : Option Nat} (d : decode M.2.1 pc = .ok (.putfield index, 3)) (q : Cond.fieldLink M.1.cls index "LateMirrors$Named" "name" "Ljava/lang/String;" ∈ lw_all) (hc : M.1.cls = "LateMirrors$Named") (hi : M.1.name = "<init>")
    (h : (pN σ r v).bind F = some w) (kk : ∀ σ1 : Hp, F σ1 = some w → AW M σ0 out (pc + 3) L st σ1) : AW M σ0 out pc L (rV v :: rV r :: st) σ := by
  obtain ⟨σ1, hv, h9⟩ := ob_some h
  unfold pN at hv
  obtain ⟨r1, hr, hw⟩ := ob_some hv
  obtain ⟨a, x, rfl, rfl, hx, hm⟩ := kst_some hr
  rw [Option.bind_some, hx, Option.bind_some] at hw
  cases hw
  obtain ⟨t, n, f, g⟩ := x
  have hm : t ∈ [10, 11, 17] := hm
  have hmu : mutT t := by
    simp only [List.mem_cons, List.not_mem_nil, or_false] at hm
    rcases hm with rfl | rfl | rfl <;> exact ⟨by decide, by decide⟩
  have hn : narrow (.object "java/lang/String") (va_rf v) = va_rf v := by cases v <;> rfl
  have hf : fits (.object "java/lang/String") (va_rf v) = true := by cases v <;> rfl
  have hvv : va_rf (fu g 0 v 0) = va_rf v := by rw [fu_self]
  refine AW.wrt (kk _ h9) (fun p l e R s m args below meth c D A O H locs ls cells slots Q hR hA w => ?_) hx hmu
  simp only [List.mem_cons, List.not_mem_nil, or_false] at hm
  rcases hm with rfl | rfl | rfl
  · exact fld_put (t := 10) (k := 0) (x' := (10, n, f, fu g 0 v)) O (hR.2 _ _ hx) rfl rfl hmu ck10 (by decide) q (Or.inl rfl) (Or.inr ⟨hi, hc.symm⟩) hn hf hvv (fun j hj => mv_fuR (by omega)) d w
  · exact fld_put (t := 11) (k := 0) (x' := (11, n, f, fu g 0 v)) O (hR.2 _ _ hx) rfl rfl hmu ck11 (by decide) q (Or.inl rfl) (Or.inr ⟨hi, hc.symm⟩) hn hf hvv (fun j hj => mv_fuR (by omega)) d w
  · exact fld_put (t := 17) (k := 0) (x' := (17, n, f, fu g 0 v)) O (hR.2 _ _ hx) rfl rfl hmu ck17 (by decide) q (Or.inl rfl) (Or.inr ⟨hi, hc.symm⟩) hn hf hvv (fun j hj => mv_fuR (by omega)) d w
theorem mu0 : mutT 0 := ⟨by decide, by decide⟩
theorem mu1 : mutT 1 := ⟨by decide, by decide⟩
theorem mu2 : mutT 2 := ⟨by decide, by decide⟩
theorem mu3 : mutT 3 := ⟨by decide, by decide⟩
theorem mu4 : mutT 4 := ⟨by decide, by decide⟩
theorem mu5 : mutT 5 := ⟨by decide, by decide⟩
theorem mu6 : mutT 6 := ⟨by decide, by decide⟩
theorem mu7 : mutT 7 := ⟨by decide, by decide⟩
theorem mu8 : mutT 8 := ⟨by decide, by decide⟩
theorem mu10 : mutT 10 := ⟨by decide, by decide⟩
theorem mu11 : mutT 11 := ⟨by decide, by decide⟩
theorem mu12 : mutT 12 := ⟨by decide, by decide⟩
theorem mu14 : mutT 14 := ⟨by decide, by decide⟩
theorem mu15 : mutT 15 := ⟨by decide, by decide⟩
theorem mu16 : mutT 16 := ⟨by decide, by decide⟩
theorem mu17 : mutT 17 := ⟨by decide, by decide⟩
theorem mu18 : mutT 18 := ⟨by decide, by decide⟩
theorem mu19 : mutT 19 := ⟨by decide, by decide⟩
theorem mu20 : mutT 20 := ⟨by decide, by decide⟩
theorem mu100 : mutT 100 := ⟨by decide, by decide⟩
theorem mu101 : mutT 101 := ⟨by decide, by decide⟩
theorem mu102 : mutT 102 := ⟨by decide, by decide⟩
theorem mu103 : mutT 103 := ⟨by decide, by decide⟩
theorem mu104 : mutT 104 := ⟨by decide, by decide⟩
theorem mu105 : mutT 105 := ⟨by decide, by decide⟩
theorem mu106 : mutT 106 := ⟨by decide, by decide⟩
theorem mu107 : mutT 107 := ⟨by decide, by decide⟩
theorem mu108 : mutT 108 := ⟨by decide, by decide⟩
theorem mu109 : mutT 109 := ⟨by decide, by decide⟩
theorem mu110 : mutT 110 := ⟨by decide, by decide⟩
theorem mu111 : mutT 111 := ⟨by decide, by decide⟩
theorem nf0 : ∀ k : Nat, aw_ty 0 k ≠ .float ∧ aw_ty 0 k ≠ .double := by
  intro k
  show tyX0 k ≠ .float ∧ tyX0 k ≠ .double
  unfold tyX0
  split <;> exact ⟨(fun h => by cases h), (fun h => by cases h)⟩
theorem nf1 : ∀ k : Nat, aw_ty 1 k ≠ .float ∧ aw_ty 1 k ≠ .double := by
  intro k
  show tyX1 k ≠ .float ∧ tyX1 k ≠ .double
  unfold tyX1
  split <;> exact ⟨(fun h => by cases h), (fun h => by cases h)⟩
theorem nf2 : ∀ k : Nat, aw_ty 2 k ≠ .float ∧ aw_ty 2 k ≠ .double := by
  intro k
  show tyX2 k ≠ .float ∧ tyX2 k ≠ .double
  unfold tyX2
  split <;> exact ⟨(fun h => by cases h), (fun h => by cases h)⟩
theorem nf3 : ∀ k : Nat, aw_ty 3 k ≠ .float ∧ aw_ty 3 k ≠ .double := by
  intro k
  show tyX3 k ≠ .float ∧ tyX3 k ≠ .double
  unfold tyX3
  split <;> exact ⟨(fun h => by cases h), (fun h => by cases h)⟩
theorem nf4 : ∀ k : Nat, aw_ty 4 k ≠ .float ∧ aw_ty 4 k ≠ .double := by
  intro k
  show tyX4 k ≠ .float ∧ tyX4 k ≠ .double
  unfold tyX4
  split <;> exact ⟨(fun h => by cases h), (fun h => by cases h)⟩
theorem nf5 : ∀ k : Nat, aw_ty 5 k ≠ .float ∧ aw_ty 5 k ≠ .double := by
  intro k
  show tyX5 k ≠ .float ∧ tyX5 k ≠ .double
  unfold tyX5
  split <;> exact ⟨(fun h => by cases h), (fun h => by cases h)⟩
theorem nf6 : ∀ k : Nat, aw_ty 6 k ≠ .float ∧ aw_ty 6 k ≠ .double := by
  intro k
  show tyX6 k ≠ .float ∧ tyX6 k ≠ .double
  unfold tyX6
  split <;> exact ⟨(fun h => by cases h), (fun h => by cases h)⟩
theorem nf7 : ∀ k : Nat, aw_ty 7 k ≠ .float ∧ aw_ty 7 k ≠ .double := by
  intro k
  show tyX7 k ≠ .float ∧ tyX7 k ≠ .double
  unfold tyX7
  split <;> exact ⟨(fun h => by cases h), (fun h => by cases h)⟩
theorem nf8 : ∀ k : Nat, aw_ty 8 k ≠ .float ∧ aw_ty 8 k ≠ .double := by
  intro k
  show tyX8 k ≠ .float ∧ tyX8 k ≠ .double
  unfold tyX8
  split <;> exact ⟨(fun h => by cases h), (fun h => by cases h)⟩
theorem nf10 : ∀ k : Nat, aw_ty 10 k ≠ .float ∧ aw_ty 10 k ≠ .double := by
  intro k
  show tyX10 k ≠ .float ∧ tyX10 k ≠ .double
  unfold tyX10
  split <;> exact ⟨(fun h => by cases h), (fun h => by cases h)⟩
theorem nf11 : ∀ k : Nat, aw_ty 11 k ≠ .float ∧ aw_ty 11 k ≠ .double := by
  intro k
  show tyX11 k ≠ .float ∧ tyX11 k ≠ .double
  unfold tyX11
  split <;> exact ⟨(fun h => by cases h), (fun h => by cases h)⟩
theorem nf12 : ∀ k : Nat, aw_ty 12 k ≠ .float ∧ aw_ty 12 k ≠ .double := by
  intro k
  show tyX12 k ≠ .float ∧ tyX12 k ≠ .double
  unfold tyX12
  split <;> exact ⟨(fun h => by cases h), (fun h => by cases h)⟩
theorem nf14 : ∀ k : Nat, aw_ty 14 k ≠ .float ∧ aw_ty 14 k ≠ .double := fun k => ⟨(fun h => by cases h), (fun h => by cases h)⟩
theorem nf15 : ∀ k : Nat, aw_ty 15 k ≠ .float ∧ aw_ty 15 k ≠ .double := fun k => ⟨(fun h => by cases h), (fun h => by cases h)⟩
theorem nf16 : ∀ k : Nat, aw_ty 16 k ≠ .float ∧ aw_ty 16 k ≠ .double := by
  intro k
  show tyX16 k ≠ .float ∧ tyX16 k ≠ .double
  unfold tyX16
  split <;> exact ⟨(fun h => by cases h), (fun h => by cases h)⟩
theorem nf17 : ∀ k : Nat, aw_ty 17 k ≠ .float ∧ aw_ty 17 k ≠ .double := by
  intro k
  show tyX17 k ≠ .float ∧ tyX17 k ≠ .double
  unfold tyX17
  split <;> exact ⟨(fun h => by cases h), (fun h => by cases h)⟩
theorem nf18 : ∀ k : Nat, aw_ty 18 k ≠ .float ∧ aw_ty 18 k ≠ .double := by
  intro k
  show tyJ5 k ≠ .float ∧ tyJ5 k ≠ .double
  unfold tyJ5
  split <;> exact ⟨(fun h => by cases h), (fun h => by cases h)⟩
theorem nf19 : ∀ k : Nat, aw_ty 19 k ≠ .float ∧ aw_ty 19 k ≠ .double := by
  intro k
  show tyJ14 k ≠ .float ∧ tyJ14 k ≠ .double
  unfold tyJ14
  split <;> exact ⟨(fun h => by cases h), (fun h => by cases h)⟩
theorem nf20 : ∀ k : Nat, aw_ty 20 k ≠ .float ∧ aw_ty 20 k ≠ .double := by
  intro k
  show tyJ10 k ≠ .float ∧ tyJ10 k ≠ .double
  unfold tyJ10
  split <;> exact ⟨(fun h => by cases h), (fun h => by cases h)⟩
/-- the length of an array of one of several kinds -/
def aLk (σ : Hp) (ts : List Nat) (r : Option Nat) : Option Int := (kst σ ts r).bind fun v => v.bind fun a => (σ.1 a).bind fun c => some c.2.1
theorem AW.alenK {M : Mi} {σ0 : Hp} {out : Ot} {pc : Nat} {L : List (Option AV)} {st : List AV} {σ : Hp} {β : Type} {F : Int → Option β} {w : β} {ts : List Nat} {r : Option Nat} (d : decode M.2.1 pc = .ok (.arraylength, 1)) (ht : ∀ t ∈ ts, 100 ≤ t)
    (h : (aLk σ ts r).bind F = some w) (kk : ∀ v : Int, F v = some w → AW M σ0 out (pc + 1) L (iV v :: st) σ) : AW M σ0 out pc L (rV r :: st) σ := by
  obtain ⟨v, hv, h9⟩ := ob_some h
  unfold aLk at hv
  obtain ⟨r1, hr, hw⟩ := ob_some hv
  obtain ⟨a, x, rfl, rfl, hx, hm⟩ := kst_some hr
  rw [Option.bind_some, hx, Option.bind_some] at hw
  cases hw
  refine AW.sim (kk _ h9) fun p l e R s m args below meth c D A O H locs ls cells slots Q h0 hR hS hL w => ?_
  obtain ⟨cell, g1, g2, g3, g4, -, g6⟩ := hR.2 _ _ hx
  obtain ⟨g6, g7, g8, g9⟩ := g6 (ht _ hm)
  refine W.alen O.1.1 O.1.2.1 g1 g6 (n := iI x.2.1) ?_ rfl rfl d w
  rw [← g8]
  rfl

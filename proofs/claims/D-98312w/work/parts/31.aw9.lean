set_option maxRecDepth 100000
/-! ===== arrays of arrays, arraycopy, further calls ===== -/
/-- n rows of k places: the outer array, then its rows -/
def rowsOf (b n : Nat) : Int → Option Nat := fun i => if 0 ≤ i ∧ i < (n : Int) then some (b + 1 + i.toNat) else none
def nM (σ : Hp) (t te : Nat) (n k : Nat) : Hp := (fun a => if a = σ.2.1 then some (t, (n : Int), fun _ => 0, rowsOf σ.2.1 n) else if σ.2.1 < a ∧ a ≤ σ.2.1 + n then some (te, (k : Int), fun _ => 0, fun _ => none) else σ.1 a, σ.2.1 + 1 + n, σ.2.2.1 + n + n * k, σ.2.2.2)
def nwM {β : Type} (σ : Hp) (t te : Nat) (n k : Nat) (f : Option Nat → Hp → β) : β := f (some σ.2.1) (nM σ t te n k)
theorem outer_slot (c : ClassId) (N h0 : Nat) : ∀ (i j : Nat), i ≤ N → j < N → (Jvm.Free.Multi.outerC c N h0 i).slots[j]? = some (if j < i then .ref (h0 + 1 + j) else .null)
  | 0, j, _, hj => by
    show (Array.replicate N Value.null)[j]? = _
    rw [Array.getElem?_replicate, if_pos hj, if_neg (Nat.not_lt_zero _)]
  | i + 1, j, hi, hj => by
    show ((Jvm.Free.Multi.outerC c N h0 i).slots.setIfInBounds i (.ref (h0 + 1 + i)))[j]? = _
    have hz := (Jvm.Free.Multi.outerC_facts c N h0 i).2.2
    by_cases e : j = i
    · subst e
      rw [Array.getElem?_setIfInBounds_self_of_lt (by rw [hz]; exact hj), if_pos (Nat.lt_succ_self _)]
    · rw [Array.getElem?_setIfInBounds_ne (Ne.symm e), outer_slot c N h0 i j (by omega) hj]
      by_cases q : j < i
      · rw [if_pos q, if_pos (by omega)]
      · rw [if_neg q, if_neg (by omega)]
section
variable {M : Mi} {σ0 : Hp} {out : Ot} {pc : Nat} {L : List (Option AV)} {st : List AV} {σ : Hp}
theorem AW.mnew {β : Type} {F : Option Nat → Hp → Option β} {w : β} {index t te n k : Nat} {ty : FieldType} (d : decode M.2.1 pc = .ok (.multianewarray index 2, 4)) (hn : n ≤ 1000) (hk : k ≤ 1000) (ht : 100 ≤ t) (hte : 100 ≤ te) (hmu : mutT t) (hmue : mutT te) (hty : aw_el t = .array ty) (htye : aw_el te = ty) (hb8 : componentBytes ty ≤ 8) (hno : ∀ C : String, ty ≠ .object C) (hnf : ty ≠ .float ∧ ty ≠ .double) (hfit : fits ty (defaultValue ty) = true) (hdd : (defaultValue ty).isDefault = true)
    (q1 : Cond.classLink M.1.cls index ("[" ++ (FieldType.array ty).toString) ∈ lw_all) (q2 : ty ∈ aw_aa) (q3 : Cond.arrayClass ty ∈ lw_all)
    (h : nwM σ t te n k F = some w) (kk : ∀ (r : Option Nat) (σ1 : Hp), F r σ1 = some w → AW M σ0 out (pc + 4) L (rV r :: st) σ1) : AW M σ0 out pc L (iV (k : Int) :: iV (n : Int) :: st) σ := by
  have K := kk _ _ h
  have hK : σ.2.1 + 1 + n ≤ out.2.2.1 ∧ σ.2.2.1 + n + n * k ≤ out.2.2.2.1 ∧ σ.2.2.2 = out.2.2.2.2 := K.1
  refine ⟨⟨by omega, by omega, hK.2.2⟩, fun p l e R s m args below meth c D A O H locs ls h0 hR hS hL => ?_⟩
  have hts := O.1.2.2.2.2.2
  have g1 := h0.1
  have g2 := h0.2.1
  have en : (iI (n : Int)).toNatClampNeg = n := by rw [clampI, nrm_eq (by omega) (by omega)]; omega
  have ek : (iI (k : Int)).toNatClampNeg = k := by rw [clampI, nrm_eq (by omega) (by omega)]; omega
  intro T hT X
  have hk8 : k * componentBytes ty ≤ 1000 * 8 := Nat.mul_le_mul hk hb8
  obtain ⟨vm₁, cA, comp, hW, hfA, hfC, hO, hI, X1, step⟩ := X.multianewarray2F O.1.1 O.1.2.2.2.2.1 (hts _ q1) (O.2.2.2.2.2.2.2.2.1 _ q2) (hts _ q3) (g := F0 m pc ls ((iV (k : Int) :: iV (n : Int) :: st).map tv)) rfl (by rw [O.1.2.1]; exact d) (n := iI (n : Int)) (k := iI (k : Int)) (rest := st.map tv) rfl
    (fun q => by rw [iI_lt0, nrm_eq (by omega) (by omega)] at q; omega) (fun q => by rw [iI_lt0, nrm_eq (by omega) (by omega)] at q; omega) (by rw [en]; omega) (by rw [ek]; omega) (by rw [ek]; omega) hfit hdd
    (by rw [en]; have := O.2.2.1.2.2.2.2.1; omega) (by rw [en, ek]; have := O.2.2.1.2.2.2.2.2; omega)
  rw [en, ek] at X1 step
  have hsz : (T.setVm vm₁).heap.size = σ.2.1 := by show T.heap.size = _; rw [hT]; exact hR.1
  generalize hV : T.setVm vm₁ = V at X1 step hsz
  have hVH : V.heap = H := by rw [← hV]; exact hT
  obtain ⟨f1, f2, -, -⟩ := Jvm.Free.Multi.fill_facts V cA comp n k (defaultValue ty) n
  have f3 : ∀ a : Nat, a < V.heap.size → (Jvm.Free.Multi.fill V cA comp n k (defaultValue ty) n).heap[a]? = V.heap[a]? := fun a ha => Jvm.Free.Multi.fill_old V cA comp n k (defaultValue ty) ha n
  have f4 := Jvm.Free.Multi.fill_inner V cA comp n k (defaultValue ty) n
  generalize hU : Jvm.Free.Multi.fill V cA comp n k (defaultValue ty) n = U at X1 step f1 f2 f3 f4
  rw [hsz] at f1 f2 f4
  have hA : ∀ a : Nat, σ.2.1 ≤ a → A a := fun a ha => O.2.2.1.1 a (by have := hS.1; have := hR.1; omega)
  have RH1 : RH D A s U.heap (nM σ t te n k) := by
    refine ⟨f1, fun a x hx => ?_⟩
    by_cases e1 : a = σ.2.1
    · subst e1
      have : (nM σ t te n k).1 σ.2.1 = some (t, (n : Int), fun _ => 0, rowsOf σ.2.1 n) := by simp [nM]
      rw [this] at hx
      cases hx
      obtain ⟨c1, c2, c3⟩ := Jvm.Free.Multi.outerC_facts cA n σ.2.1 n
      refine ⟨_, f2, by rw [c2]; rfl, by rw [c2]; exact fun q => (by cases q), fun _ => ⟨hA _ (Nat.le_refl _), c2⟩, fun q => (by have q : t < 100 := q; omega), fun _ => ⟨by rw [show aw_el (t, (n : Int), (fun _ => 0 : Int → Int), (rowsOf σ.2.1 n)).1 = .array ty from hty]; exact (hO _ _ _).1, fun C hC => ?_, by rw [c3], fun j hj => ?_⟩⟩
      · have hC : aw_el t = .object C := hC
        rw [hty] at hC; cases hC
      · rw [c3] at hj
        rw [outer_slot cA n σ.2.1 n j (Nat.le_refl _) hj, if_pos hj]
        show some _ = some (mv (aw_el t) _ _) ∧ fits (aw_el t) (mv (aw_el t) _ _) = true
        rw [hty]
        have e9 : mv (.array ty) (t, (n : Int), (fun _ => 0 : Int → Int), (rowsOf σ.2.1 n)) (j : Int) = .ref (σ.2.1 + 1 + j) := by
          show va_rf (if 0 ≤ (j : Int) ∧ (j : Int) < (n : Int) then some (σ.2.1 + 1 + (j : Int).toNat) else none) = _
          rw [if_pos (by omega), Int.toNat_natCast]
          rfl
        rw [e9]
        exact ⟨rfl, rfl⟩
    · by_cases e2 : σ.2.1 < a ∧ a ≤ σ.2.1 + n
      · have : (nM σ t te n k).1 a = some (te, (k : Int), fun _ => 0, fun _ => none) := by simp [nM, e1, e2]
        rw [this] at hx
        cases hx
        have f5 := f4 (a - (σ.2.1 + 1)) (by omega)
        rw [show σ.2.1 + 1 + (a - (σ.2.1 + 1)) = a by omega] at f5
        refine ⟨_, f5, rfl, fun q => (by cases q), fun _ => ⟨hA _ (by omega), rfl⟩, fun q => (by have q : te < 100 := q; omega), fun _ => ⟨by rw [show aw_el (te, (k : Int), (fun _ => 0 : Int → Int), (fun _ => none : Int → Option Nat)).1 = ty from htye]; exact (hI _ _).1, fun C hC _ => ?_, ?_, fun j hj => ?_⟩⟩
        · have hC : aw_el te = .object C := hC
          rw [htye] at hC; exact absurd hC (hno C)
        · show ((Array.replicate k (defaultValue ty)).size : Int) = k
          rw [Array.size_replicate]
        · have hj : j < (Array.replicate k (defaultValue ty)).size := hj
          rw [Array.size_replicate] at hj
          show (Array.replicate k (defaultValue ty))[j]? = some (mv (aw_el te) _ _) ∧ fits (aw_el te) (mv (aw_el te) _ _) = true
          rw [htye, mv_def hnf.1 hnf.2, Array.getElem?_replicate, if_pos hj]
          exact ⟨rfl, hfit⟩
      · have : (nM σ t te n k).1 a = σ.1 a := by simp [nM, e1, e2]
        rw [this] at hx
        have hh := hR.2 a x hx
        have hlt : a < V.heap.size := by rw [hVH]; exact hh.lt
        exact hh.kept (by rw [f3 a hlt, hVH])
  have w9 := K.2 p l e R s m args below meth c D A O U.heap locs ls ⟨by show _ ≤ σ.2.1 + 1 + n; omega, by show _ ≤ σ.2.2.1 + n + n * k; omega, h0.2.2⟩ RH1 ⟨by have := hS.1; have := hR.1; omega, fun q h1 h2 => (f3 q (by rw [hVH]; exact Nat.lt_of_lt_of_le h1 hS.1)).trans (by rw [hVH]; exact hS.2.1 q h1 h2), hS.2.2⟩ hL
  have ec : σ.2.1 - σ0.2.1 + 1 + n = (nM σ t te n k).2.1 - σ0.2.1 := by show _ = σ.2.1 + 1 + n - σ0.2.1; omega
  have es : σ.2.2.1 - σ0.2.2.1 + n + n * k = (nM σ t te n k).2.2.1 - σ0.2.2.1 := by show _ = σ.2.2.1 + n + n * k - σ0.2.2.1; omega
  rw [ec, es] at X1
  obtain ⟨t2, a1, b1⟩ := w9 U rfl X1
  refine ⟨t2, step t2 ?_, b1⟩
  have e8 : T.heap.size = σ.2.1 := by rw [hT]; exact hR.1
  rw [e8]
  exact a1
theorem run_slot (at_ : Nat) : ∀ (xs : List Value) (i : Nat) (c : Cell) (k : Nat), k < c.slots.size → (c.storePairs at_ (xs.zipIdx i)).slots[k]? = if at_ + i ≤ k ∧ k < at_ + i + xs.length then xs[k - (at_ + i)]? else c.slots[k]?
  | [], i, c, k, _ => by
    rw [if_neg (by simp only [List.length_nil]; omega)]
    rfl
  | x :: xs, i, c, k, hk => by
    rw [List.zipIdx_cons]
    show ((c.setSlot (at_ + i) x).storePairs at_ (xs.zipIdx (i + 1))).slots[k]? = _
    have hs : (c.setSlot (at_ + i) x).slots = c.slots.setIfInBounds (at_ + i) x := rfl
    rw [run_slot at_ xs (i + 1) (c.setSlot (at_ + i) x) k (by rw [hs, Array.size_setIfInBounds]; exact hk)]
    by_cases e : k = at_ + i
    · subst e
      rw [if_neg (by omega), if_pos (by simp only [List.length_cons]; omega), hs, Array.getElem?_setIfInBounds_self_of_lt hk, Nat.sub_self]
      rfl
    · by_cases h : at_ + (i + 1) ≤ k ∧ k < at_ + (i + 1) + xs.length
      · rw [if_pos h, if_pos (by simp only [List.length_cons]; omega)]
        rw [show k - (at_ + i) = (k - (at_ + (i + 1))) + 1 by omega, List.getElem?_cons_succ]
      · rw [if_neg h, if_neg (by simp only [List.length_cons]; omega), hs, Array.getElem?_setIfInBounds_ne (Ne.symm e)]
theorem mv_cpI {ty : FieldType} (hp : refKind ty = false) {t1 t2 : Nat} {n1 n2 : Int} {f g : Int → Int} {a b : Int → Option Nat} {sp dp n k : Int} : mv ty (t2, n2, cpI f g sp dp n, b) k = if dp ≤ k ∧ k < dp + n then mv ty (t1, n1, f, a) (sp + (k - dp)) else mv ty (t2, n2, g, b) k := by
  by_cases h : dp ≤ k ∧ k < dp + n
  · rw [if_pos h]
    cases ty <;> first | (exfalso; simp [refKind] at hp; done) | simp [mv, cpI, h]
  · rw [if_neg h]
    cases ty <;> first | (exfalso; simp [refKind] at hp; done) | simp [mv, cpI, h]
theorem AW.acpy {β : Type} {F : Hp → Option β} {w : β} {index t : Nat} {r1 r2 : Option Nat} {sp dp n : Int} (d : decode M.2.1 pc = .ok (.invokestatic index, 3)) (q : Cond.methodLink M.1.cls index arraycopyName ∈ lw_all) (ht : 100 ≤ t) (hmu : mutT t) (hp : refKind (aw_el t) = false) (hF : Nat.ble 1 M.2.2.2.2.1 = true) (hLc : Nat.ble (catS st + (nativeFrameWords "java/lang/System" "arraycopy" 5 + 11)) M.2.2.2.2.2.1 = true)
    (h : (acI σ t r1 sp r2 dp n).bind F = some w) (kk : ∀ σ1 : Hp, F σ1 = some w → AW M σ0 out (pc + 3) L st σ1) : AW M σ0 out pc L (iV n :: iV dp :: rV r2 :: iV sp :: rV r1 :: st) σ := by
  obtain ⟨σ1, hv, h9⟩ := ob_some h
  unfold acI at hv
  obtain ⟨x, hx, hv1⟩ := ob_some hv
  obtain ⟨y, hy, hv2⟩ := ob_some hv1
  obtain ⟨rfl, x2, x3⟩ := cel_some hx
  obtain ⟨rfl, y2, y3⟩ := cel_some hy
  obtain ⟨hi, hw⟩ := pz_elim hv2
  cases hw
  obtain ⟨a, ta1, na, fa, ga⟩ := x
  obtain ⟨b, tb1, nb, fb, gb⟩ := y
  have x4 : t = ta1 := x3.symm
  have y4 : t = tb1 := y3.symm
  clear x3 y3
  subst x4
  subst y4
  have hi : 0 ≤ nrm sp ∧ 0 ≤ nrm dp ∧ 0 ≤ nrm n ∧ nrm sp + nrm n ≤ na ∧ nrm dp + nrm n ≤ nb := hi
  obtain ⟨i1, i2, i3, i4, i5⟩ := hi
  have K := kk _ h9
  refine ⟨K.1, fun p l e R s m args below meth c D A O H locs ls h0 hR hS hL => ?_⟩
  have hts := O.1.2.2.2.2.2
  intro T hT X
  obtain ⟨cs, s1, s2, s3, s4, -, s6⟩ := hR.2 _ _ x2
  obtain ⟨s6, -, s8, s9⟩ := s6 ht
  obtain ⟨cd, d1, d2, d3, d4, -, d6⟩ := hR.2 _ _ y2
  obtain ⟨d6, d7, d8, d9⟩ := d6 ht
  have d4 := d4 hmu
  obtain ⟨so, ks, hks, cms, hkks⟩ := s6
  obtain ⟨dob, kd, hkd, cmd, hkkd⟩ := d6
  have s8 : (cs.slots.size : Int) = na := s8
  have d8 : (cd.slots.size : Int) = nb := d8
  obtain ⟨vm', X', step⟩ := X.arraycopy O.1.1 O.1.2.2.2.2.1 (hts _ q) (hts _ q822) (hts _ q821) (hts _ q149) (src := a) (dst := b) (cs := cs) (cd := cd) (srcPos := iI sp) (destPos := iI dp) (n := iI n) (by rw [hT]; exact s1) (by rw [hT]; exact d1)
    so dob s3 d3 hks hkd hkks hkkd (by rw [hp]; simp) (fun z => by rw [iI_lt0] at z; omega) (fun z => by rw [iI_lt0] at z; omega) (fun z => by rw [iI_lt0] at z; omega)
    (by show ¬ nrm sp + nrm n > _; omega) (by show ¬ nrm dp + nrm n > _; omega)
    (fun vm₁ _ i hi => by
      rw [clampI] at hi ⊢
      have hj : (nrm sp).toNat + i < cs.slots.size := by omega
      have e9 : cs.slots.getD ((nrm sp).toNat + i) .null = mv (aw_el t) (t, na, fa, ga) (((nrm sp).toNat + i : Nat) : Int) := by
        rw [Array.getD_eq_getD_getElem?, (s9 _ hj).1]
        rfl
      rw [e9]
      refine ⟨(s9 _ hj).2, ?_⟩
      generalize aw_el t = ty at hp
      cases ty <;> first | exact trivial | (simp [refKind] at hp))
    (g := F0 m pc ls ((iV n :: iV dp :: rV (some b) :: iV sp :: rV (some a) :: st).map tv)) rfl (by rw [O.1.2.2.2.1]; exact hL.1) (rest := st.map tv) rfl (by rw [O.1.2.1]; exact d) (by rw [O.2.2.1.2.2.1]; exact Nat.le_of_ble_eq_true hF)
    (by
      show 2 * 0 + _ + _ ≤ _
      rw [catS_ok, O.2.2.1.2.2.2.1]
      have := Nat.le_of_ble_eq_true hLc
      omega)
  obtain ⟨p1, p2, p3, -⟩ := Cell.storePairs_facts cd (iI dp).toNatClampNeg ((cs.stretch (iI sp).toNatClampNeg (iI n).toNatClampNeg).zipIdx)
  have hcop : copied cs cd (iI sp) (iI dp) (iI n) = cd.storePairs (iI dp).toNatClampNeg ((cs.stretch (iI sp).toNatClampNeg (iI n).toNatClampNeg).zipIdx) := rfl
  rw [hcop] at X' step
  generalize hcn : cd.storePairs (iI dp).toNatClampNeg ((cs.stretch (iI sp).toNatClampNeg (iI n).toNatClampNeg).zipIdx) = cn at X' step p1 p2 p3
  have hl : b < H.size := (Array.getElem?_eq_some_iff.mp d1).1
  have hheap : ((T.setVm vm').setCell b cn).heap = H.setIfInBounds b cn := by rw [← hT]; rfl
  have oq : ∀ q : Nat, q ≠ b → (H.setIfInBounds b cn)[q]? = H[q]? := fun q hq => by simp [Array.getElem?_setIfInBounds, Ne.symm hq]
  have ob : (H.setIfInBounds b cn)[b]? = some cn := by simp [Array.getElem?_setIfInBounds, hl]
  have hlen : (cs.stretch (iI sp).toNatClampNeg (iI n).toNatClampNeg).length = (nrm n).toNat := by unfold Cell.stretch; rw [List.length_map, List.length_range]; rfl
  have slot : ∀ k : Nat, k < cd.slots.size → cn.slots[k]? = some (mv (aw_el t) (t, nb, cpI fa fb (nrm sp) (nrm dp) (nrm n), gb) k) ∧ fits (aw_el t) (mv (aw_el t) (t, nb, cpI fa fb (nrm sp) (nrm dp) (nrm n), gb) k) = true := by
    intro k hk
    rw [mv_cpI hp (t1 := t) (n1 := na) (a := ga), ← hcn]
    have r := run_slot (iI dp).toNatClampNeg (cs.stretch (iI sp).toNatClampNeg (iI n).toNatClampNeg) 0 cd k hk
    rw [hlen, clampI, Nat.add_zero] at r
    rw [clampI dp, r]
    by_cases q : nrm dp ≤ (k : Int) ∧ (k : Int) < nrm dp + nrm n
    · rw [if_pos q, if_pos (by omega)]
      have hj : (nrm sp).toNat + (k - (nrm dp).toNat) < cs.slots.size := by omega
      have e7 : nrm sp + ((k : Int) - nrm dp) = (((nrm sp).toNat + (k - (nrm dp).toNat) : Nat) : Int) := by omega
      rw [e7]
      refine ⟨?_, (s9 _ hj).2⟩
      unfold Cell.stretch
      rw [List.getElem?_map, List.getElem?_range (by rw [clampI]; omega)]
      show some (cs.slots.getD ((iI sp).toNatClampNeg + (k - (nrm dp).toNat)) .null) = _
      rw [clampI, Array.getD_eq_getD_getElem?, (s9 _ hj).1]
      rfl
    · rw [if_neg q, if_neg (by omega)]
      exact d9 k hk
  have hh : hld D A s (H.setIfInBounds b cn) b (t, nb, cpI fa fb (nrm sp) (nrm dp) (nrm n), gb) := by
    refine ⟨cn, ob, by rw [p2]; exact d2, by rw [p2]; exact d3, fun _ => ⟨d4.1, p2.trans d4.2⟩, fun z => (by have z : t < 100 := z; omega), fun _ => ⟨⟨fun z hz => dob z (by rw [← p2]; exact hz), kd, by rw [p1]; exact hkd, cmd, hkkd⟩, fun C hC => ?_, ?_, fun j hj => ?_⟩⟩
    · rw [p1]; exact d7 C hC
    · rw [p3]; exact d8
    · rw [p3] at hj; exact slot j hj
  obtain ⟨t2, a1, b1⟩ := K.2 p l e R s m args below meth c D A O _ _ ls h0 (hR.upd (by simp) oq hh) ⟨by simp; exact hS.1, fun q g1 g2 => by
      rw [oq q (fun e => g2 (by rw [e]; exact d4.1))]
      exact hS.2.1 q g1 g2, fun q hq => by
      rcases List.mem_append.mp hq with h | h
      · exact hS.2.2 q h
      · obtain ⟨z, -, hz⟩ := List.mem_map.mp h
        rw [← hz]
        exact d4.1⟩ hL _ hheap X'
  exact ⟨t2, step t2 a1, b1⟩
end

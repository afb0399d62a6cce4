set_option maxRecDepth 100000
/-! ===== rows over the abstract heap: making cells, references, casts, constants, arraycopy ===== -/
def nw {β : Type} (σ : Hp) (t n : Nat) (f : Option Nat → Hp → β) : β := f (some σ.2.1) (nO σ t n)
def nwA {β : Type} (σ : Hp) (t : Nat) (n : Int) (f : Option Nat → Hp → Option β) : Option β := (nA σ t n).bind fun s1 => f (some σ.2.1) s1
def kst (σ : Hp) (ts : List Nat) (r : Option Nat) : Option (Option Nat) := r.bind fun a => (σ.1 a).bind fun c => if c.1 ∈ ts then some (some a) else none
def eT (t : Nat) : List Nat := match t with
  | 108 => [50]
  | 109 => [10, 11, 17]
  | 110 => [5]
  | 111 => [14, 15, 16]
  | _ => []
def sE (σ : Hp) (t : Nat) (r : Option Nat) (i : Int) (v : Option Nat) : Option Hp := (kst σ (eT t) v).bind fun v => sR σ t r i v
def gN (σ : Hp) (r : Option Nat) : Option (Option Nat) := (kst σ [10, 11, 17] r).bind fun r => r.bind fun a => (σ.1 a).bind fun c => some (c.2.2.2 0)
abbrev oI (w : Int × Hp) : Ot := (.inl (some (iV w.1)), w.2)
abbrev oU (w : Unit × Hp) : Ot := (.inl none, w.2)
abbrev oJ (w : Int × Hp) : Ot := (.inl (some (jV w.1)), w.2)
abbrev oR (w : (Option Nat) × Hp) : Ot := (.inl (some (rV w.1)), w.2)
theorem mv_def {ty : FieldType} (h1 : ty ≠ .float) (h2 : ty ≠ .double) (t : Nat) (n k : Int) : mv ty (t, n, fun _ => 0, fun _ => none) k = defaultValue ty := by
  cases ty <;> first | rfl | exact absurd rfl h1 | exact absurd rfl h2
theorem kst_some {σ : Hp} {ts : List Nat} {r v : Option Nat} (h : kst σ ts r = some v) : ∃ (a : Nat) (c : Ce), r = some a ∧ v = some a ∧ σ.1 a = some c ∧ c.1 ∈ ts := by
  unfold kst at h
  obtain ⟨a, ha, h9⟩ := ob_some h
  obtain ⟨c, hc, h8⟩ := ob_some h9
  obtain ⟨hm, h7⟩ := pz_elim h8
  cases h7
  exact ⟨a, c, ha, rfl, hc, hm⟩
section
variable {M : Mi} {σ0 : Hp} {out : Ot} {pc : Nat} {L : List (Option AV)} {st : List AV} {σ : Hp}
theorem AW.ifnull {r : Option Nat} {β : Type} {X Y : Option β} {w : β} {off : Int} (tgt : Nat) (d : decode M.2.1 pc = .ok (.ifnull off, 3)) (ht : (pc : Int) + off = (tgt : Int)) (h : (if r = none then X else Y) = some w) (k1 : r = none → X = some w → AW M σ0 out tgt L st σ) (k2 : ¬ r = none → Y = some w → AW M σ0 out (pc + 3) L st σ) : AW M σ0 out pc L (rV r :: st) σ := by
  cases r with
  | none => exact AW.sim (k1 rfl h) fun p l e R s m args below meth c D A O H locs ls cells slots Q h0 hR hS hL w => lv_ifnullN O.1.1 O.1.2.1 d ht w
  | some a => exact AW.sim (k2 (by simp) h) fun p l e R s m args below meth c D A O H locs ls cells slots Q h0 hR hS hL w => lv_ifnull O.1.1 O.1.2.1 d w
theorem AW.ifnonnull {r : Option Nat} {β : Type} {X Y : Option β} {w : β} {off : Int} (tgt : Nat) (d : decode M.2.1 pc = .ok (.ifnonnull off, 3)) (ht : (pc : Int) + off = (tgt : Int)) (h : (if ¬ r = none then X else Y) = some w) (k1 : ¬ r = none → X = some w → AW M σ0 out tgt L st σ) (k2 : ¬ ¬ r = none → Y = some w → AW M σ0 out (pc + 3) L st σ) : AW M σ0 out pc L (rV r :: st) σ := by
  cases r with
  | none => exact AW.sim (k2 (by simp) h) fun p l e R s m args below meth c D A O H locs ls cells slots Q h0 hR hS hL w => lv_ifnonnullN O.1.1 O.1.2.1 d w
  | some a => exact AW.sim (k1 (by simp) h) fun p l e R s m args below meth c D A O H locs ls cells slots Q h0 hR hS hL w => lv_ifnonnull O.1.1 O.1.2.1 d ht w
theorem AW.acmp_eq {r1 r2 : Option Nat} {β : Type} {X Y : Option β} {w : β} {off : Int} (tgt : Nat) (d : decode M.2.1 pc = .ok (.if_acmp .eq off, 3)) (ht : (pc : Int) + off = (tgt : Int)) (h : (if r1 = r2 then X else Y) = some w) (k1 : r1 = r2 → X = some w → AW M σ0 out tgt L st σ) (k2 : ¬ r1 = r2 → Y = some w → AW M σ0 out (pc + 3) L st σ) : AW M σ0 out pc L (rV r2 :: rV r1 :: st) σ :=
  AW.br (c0 := r1 = r2) (fun q => k1 q (by rw [if_pos q] at h; exact h)) (fun q => k2 q (by rw [if_neg q] at h; exact h)) fun p l e R s m args below meth c D A O H locs ls cells slots Q w1 w2 => lv_acmp_eq O.1.1 O.1.2.1 d ht w1 w2
theorem AW.acmp_ne {r1 r2 : Option Nat} {β : Type} {X Y : Option β} {w : β} {off : Int} (tgt : Nat) (d : decode M.2.1 pc = .ok (.if_acmp .ne off, 3)) (ht : (pc : Int) + off = (tgt : Int)) (h : (if ¬ r1 = r2 then X else Y) = some w) (k1 : ¬ r1 = r2 → X = some w → AW M σ0 out tgt L st σ) (k2 : ¬ ¬ r1 = r2 → Y = some w → AW M σ0 out (pc + 3) L st σ) : AW M σ0 out pc L (rV r2 :: rV r1 :: st) σ :=
  AW.br (c0 := ¬ r1 = r2) (fun q => k1 q (by rw [if_pos q] at h; exact h)) (fun q => k2 q (by rw [if_neg q] at h; exact h)) fun p l e R s m args below meth c D A O H locs ls cells slots Q w1 w2 => lv_acmp_ne O.1.1 O.1.2.1 d ht (fun q => w1 q) (fun q => w2 (fun z => z q))
theorem AW.ldcS {index : Nat} {tx : String} (i : Nat) (d : decode M.2.1 pc = .ok (.ldc index, 2)) (hi : aw_str[i]? = some (M.1.cls, index, tx)) (k : AW M σ0 out (pc + 2) L (rV (some (σ.2.2.2 i)) :: st) σ) : AW M σ0 out pc L st σ :=
  AW.sim k fun p l e R s m args below meth c D A O H locs ls cells slots Q h0 hR hS hL w => by
    have hZ := O.2.2.2.2.2.2.2.2.2.1 i _ hi
    rw [h0.2.2] at hZ
    exact va_ldcS O.1.1 O.1.2.1 O.1.2.2.2.2.1 hZ d w
theorem AW.gets {index : Nat} {q : String × String × String} (i : Nat) (d : decode M.2.1 pc = .ok (.getstatic index, 3)) (hi : aw_st[i]? = some q) (hq : Cond.fieldLink M.1.cls index q.1 q.2.1 q.2.2 ∈ lw_all) (k : AW M σ0 out (pc + 3) L (stv σ.2.2.2 i :: st) σ) : AW M σ0 out pc L st σ :=
  AW.sim k fun p l e R s m args below meth c D A O H locs ls cells slots Q h0 hR hS hL w => by
    have hZ := O.2.2.2.2.2.2.2.2.2.2.1 i _ hi
    rw [h0.2.2] at hZ
    exact va_gets O.1.1 O.1.2.1 hZ hS O.1.2.2.2.2.1 (O.1.2.2.2.2.2 _ hq) (fun _ h => h) d w
theorem AW.getsI {index : Nat} (d : decode M.2.1 pc = .ok (.getstatic index, 3)) (hq : Cond.fieldLink M.1.cls index "java/lang/String" "COMPACT_STRINGS" "Z" ∈ lw_all) (k : AW M σ0 out (pc + 3) L (iV 1 :: st) σ) : AW M σ0 out pc L st σ :=
  AW.gets 0 d rfl hq k
theorem AW.getsR {index : Nat} {q : String × String × String} (i : Nat) (d : decode M.2.1 pc = .ok (.getstatic index, 3)) (hi : aw_st[i + 1]? = some q) (hq : Cond.fieldLink M.1.cls index q.1 q.2.1 q.2.2 ∈ lw_all) (k : AW M σ0 out (pc + 3) L (rV (cR σ.2.2.2 (i + 1)) :: st) σ) : AW M σ0 out pc L st σ :=
  AW.gets (i + 1) d hi hq k
theorem AW.objI {index : Nat} {r : Option Nat} {β : Type} {F : Nat → Option β} {w : β} (d : decode M.2.1 pc = .ok (.invokespecial index, 3)) (q : Cond.methodLink M.1.cls index Lib.objectInit ∈ lw_all) (hF : Nat.ble 1 M.2.2.2.2.1 = true) (hL : Nat.ble (catS st + 12) M.2.2.2.2.2.1 = true)
    (h : r.bind F = some w) (kk : ∀ a : Nat, F a = some w → AW M σ0 out (pc + 3) L st σ) : AW M σ0 out pc L (rV r :: st) σ := by
  obtain ⟨a, rfl, h9⟩ := ob_some h
  refine AW.sim (kk a h9) fun p l e R s m args below meth c D A O H locs ls cells slots Q h0 hR hS hLv w => ?_
  have hts := O.1.2.2.2.2.2
  refine W.objInit O.1.1 O.1.2.1 O.1.2.2.2.2.1 (hts _ q) (hts _ q163) (hts _ q164) rfl (by rw [O.1.2.2.2.1]; exact hLv.1) rfl d (by rw [O.2.2.1.2.2.1]; exact Nat.le_of_ble_eq_true hF) ?_ w
  rw [O.2.2.1.2.2.2.1]
  have h1 : ((st.map tv).map fun v => v.category).sum = catS st := catS_ok st
  have h2 := Nat.le_of_ble_eq_true hL
  show 2 * 0 + _ + 12 ≤ _
  rw [h1]
  omega
/-- a step that makes one cell -/
theorem AW.alc {pc' : Nat} {st' : List AV} {x : Ce} {n : Nat} (k : AW M σ0 out pc' L st' (nC σ x n))
    (f : ∀ (p : Program) (l : Launch) (e : Env) (R : Room) (s : State) (m : MethodId) (args : Array Value) (below : List Frame) (meth : Method) (c : Code) (D : va_G) (A : Nat → Prop), Ok M σ0 out.2 p l e R s m args below meth c D A →
      ∀ (H : Heap) (locs : List Loc) (ls : Array Slot) (cells slots : Nat) (Q : State → Prop), RH D A s H σ → A H.size → cells + 1 ≤ R.cells → slots + n ≤ R.slots →
        (∀ H1 : Heap, H1.size = H.size + 1 → (∀ q : Nat, q < H.size → H1[q]? = H[q]?) → hld D A s H1 H.size x → W p l e R s m args below meth c H1 locs (cells + 1) (slots + n) Q (F0 m pc' ls (st'.map tv))) → W p l e R s m args below meth c H locs cells slots Q (F0 m pc ls (st.map tv))) : AW M σ0 out pc L st σ := by
  have hk : σ.2.1 + 1 ≤ out.2.2.1 ∧ σ.2.2.1 + n ≤ out.2.2.2.1 ∧ σ.2.2.2 = out.2.2.2.2 := k.1
  refine ⟨⟨by omega, by omega, hk.2.2⟩, fun p l e R s m args below meth c D A O H locs ls h0 hR hS hL => ?_⟩
  have g1 := h0.1
  have g2 := h0.2.1
  have ec : σ.2.1 - σ0.2.1 + 1 = (nC σ x n).2.1 - σ0.2.1 := by show _ = σ.2.1 + 1 - σ0.2.1; omega
  have es : σ.2.2.1 - σ0.2.2.1 + n = (nC σ x n).2.2.1 - σ0.2.2.1 := by show _ = σ.2.2.1 + n - σ0.2.2.1; omega
  refine f p l e R s m args below meth c D A O H locs ls _ _ _ hR (O.2.2.1.1 _ hS.1) (by have := O.2.2.1.2.2.2.2.1; omega) (by have := O.2.2.1.2.2.2.2.2; omega) fun H1 hz oq hh => ?_
  rw [ec, es]
  refine k.2 p l e R s m args below meth c D A O H1 locs ls ⟨?_, ?_, h0.2.2⟩ (hR.new hz oq hh) ⟨by have := hS.1; omega, fun q h1 h2 => (oq q (Nat.lt_of_lt_of_le h1 hS.1)).trans (hS.2.1 q h1 h2), hS.2.2⟩ hL
  · show _ ≤ σ.2.1 + 1; omega
  · show _ ≤ σ.2.2.1 + n; omega
theorem AW.new {β : Type} {F : Option Nat → Hp → Option β} {w : β} {index t n : Nat} (d : decode M.2.1 pc = .ok (.new index, 3)) (ck : clsOk t) (hmu : mutT t) (hnf : ∀ k : Nat, aw_ty t k ≠ .float ∧ aw_ty t k ≠ .double)
    (q1 : Cond.classLink M.1.cls index (aw_c t).1 ∈ lw_all) (q2 : Cond.instantiable (aw_c t).1 n ∈ lw_all) (q3 : Cond.initialized (aw_c t).1 ∈ lw_all)
    (h : nw σ t n F = some w) (kk : ∀ (r : Option Nat) (σ1 : Hp), F r σ1 = some w → AW M σ0 out (pc + 3) L (rV r :: st) σ1) : AW M σ0 out pc L st σ := by
  refine AW.alc (kk _ _ h) fun p l e R s m args below meth c D A O H locs ls cells slots Q hR hA hc hs w => ?_
  have hts := O.1.2.2.2.2.2
  have hKn := O.2.2.2.1 _ ck.1
  refine W.newcK O.1.1 O.1.2.1 O.1.2.2.2.2.1 (hts _ q1) (hts _ q2) (hts _ q3) rfl d hc hs hKn.2.1 hR.1 fun H1 kC hkC e1 z1 o1 => ?_
  obtain ⟨cell, b1, b2, b3, b4⟩ := u_born (aw_ty t) hts ck.2.2.1 hKn hkC e1 ck.2.2.2.1
  rw [← hR.1] at z1 o1 b1
  refine w H1 z1 o1 ⟨cell, b1, by rw [b3]; rfl, by rw [b3]; exact fun q => (by cases q), fun _ => ⟨hA, b3⟩, fun _ => ⟨b2, fun k hk => ?_⟩, fun q => ?_⟩
  · rw [b4 k hk, mv_def (hnf k).1 (hnf k).2]
  · have := ck.2.1
    have q : 100 ≤ t := q
    omega
theorem nA_some {σ σ1 : Hp} {t : Nat} {n : Int} (h : nA σ t n = some σ1) : (0 ≤ nrm n ∧ nrm n ≤ 1000000) ∧ σ1 = nC σ (t, nrm n, fun _ => 0, fun _ => none) (nrm n).toNat := by
  unfold nA at h
  obtain ⟨h1, h2⟩ := pz_elim h
  exact ⟨h1, (Option.some.inj h2).symm⟩
theorem clampI (n : Int) : (iI n).toNatClampNeg = (nrm n).toNat := rfl
theorem AW.newa {β : Type} {F : Option Nat → Hp → Option β} {w : β} {t : Nat} {n : Int} {atype : ArrayType} (d : decode M.2.1 pc = .ok (.newarray atype, 2)) (ht : 100 ≤ t) (hmu : mutT t) (hty : newarray.typeOf atype = aw_el t) (hb8 : componentBytes (aw_el t) ≤ 8) (hno : ∀ C : String, aw_el t ≠ .object C) (hnf : aw_el t ≠ .float ∧ aw_el t ≠ .double) (hfit : fits (aw_el t) (defaultValue (aw_el t)) = true)
    (q : Cond.arrayClass (aw_el t) ∈ lw_all)
    (h : nwA σ t n F = some w) (kk : ∀ (r : Option Nat) (σ1 : Hp), F r σ1 = some w → AW M σ0 out (pc + 2) L (rV r :: st) σ1) : AW M σ0 out pc L (iV n :: st) σ := by
  unfold nwA at h
  obtain ⟨σ1, h1, h2⟩ := ob_some h
  obtain ⟨hn, rfl⟩ := nA_some h1
  refine AW.alc (kk _ _ h2) fun p l e R s m args below meth c D A O H locs ls cells slots Q hR hA hc hs w => ?_
  have hts := O.1.2.2.2.2.2
  have hq := hts _ q
  rw [← hty] at hq
  refine W.newaK O.1.1 O.1.2.1 hq rfl d (n := iI n) (N := (nrm n).toNat) rfl (fun q => by rw [iI_lt0] at q; omega) rfl ?_ hc hs hR.1 fun H1 cA e1 z1 o1 hAr => ?_
  · rw [hty]
    have : (nrm n).toNat * componentBytes (aw_el t) ≤ 1000000 * 8 := Nat.mul_le_mul (by omega) hb8
    omega
  rw [hty] at e1 hAr
  rw [← hR.1] at z1 o1 e1
  refine w H1 z1 o1 ⟨_, e1, rfl, fun q => (by cases q), fun _ => ⟨hA, rfl⟩, fun q => ?_, fun _ => ⟨hAr _ _, fun C hC _ => absurd hC (hno C), ?_, fun j hj => ?_⟩⟩
  · have q : t < 100 := q
    omega
  · rw [arrV_size]
    show (((nrm n).toNat : Nat) : Int) = nrm n
    omega
  · rw [arrV_size] at hj
    rw [arrV_read _ _ hj]
    refine ⟨?_, ?_⟩
    · exact congrArg some (mv_def hnf.1 hnf.2 _ _ _).symm
    · show fits (aw_el t) _ = true
      rw [mv_def hnf.1 hnf.2]
      exact hfit
theorem AW.anewa {β : Type} {F : Option Nat → Hp → Option β} {w : β} {t index : Nat} {n : Int} {C : String} (d : decode M.2.1 pc = .ok (.anewarray index, 3)) (ht : 100 ≤ t) (hmu : mutT t) (hty : aw_el t = .object C) (q : Cond.classLink M.1.cls index C ∈ lw_all) (hao : C ∈ aw_ao)
    (h : nwA σ t n F = some w) (kk : ∀ (r : Option Nat) (σ1 : Hp), F r σ1 = some w → AW M σ0 out (pc + 3) L (rV r :: st) σ1) : AW M σ0 out pc L (iV n :: st) σ := by
  unfold nwA at h
  obtain ⟨σ1, h1, h2⟩ := ob_some h
  obtain ⟨hn, rfl⟩ := nA_some h1
  refine AW.alc (kk _ _ h2) fun p l e R s m args below meth c D A O H locs ls cells slots Q hR hA hc hs w => ?_
  have hts := O.1.2.2.2.2.2
  refine W.anew O.1.1 O.1.2.1 O.1.2.2.2.2.1 (hts _ q) (va_AO.use (O.2.2.2.2.2.2.2.1 C hao)) rfl d (n := iI n) rfl (fun q => by rw [iI_lt0] at q; omega) (by rw [clampI]; omega) hc hs fun cA kA comp f1 f2 f3 f4 => ?_
  generalize hH1 : H.push ({ cls := cA, slots := Array.replicate (iI n).toNatClampNeg .null, vm := .none } : Cell) = H1
  have z1 : H1.size = H.size + 1 := by rw [← hH1, Array.size_push]
  have e1 : H1[H.size]? = some ({ cls := cA, slots := Array.replicate (iI n).toNatClampNeg .null, vm := .none } : Cell) := by rw [← hH1, Array.getElem?_push_size]
  have o1 : ∀ q : Nat, q < H.size → H1[q]? = H[q]? := fun q hq => by rw [← hH1, Array.getElem?_push, if_neg (Nat.ne_of_lt hq)]
  have e9 : H.size = σ.2.1 := hR.1
  have w9 := w H1 z1 o1 ⟨_, e1, rfl, fun q => (by cases q), fun _ => ⟨hA, rfl⟩, fun q => (by have q : t < 100 := q; omega), fun _ => ⟨⟨fun k h => (by cases h), kA, f2, comp, by rw [f3]; exact congrArg _ hty.symm⟩, fun C' hC' _ => ?_, ?_, fun j hj => ?_⟩⟩
  · rw [← e9] at w9
    exact w9
  · have hC' : aw_el t = .object C' := hC'
    rw [hty] at hC'
    cases hC'
    exact ⟨kA, comp, f2, f3, f4, f1⟩
  · show ((Array.replicate (iI n).toNatClampNeg Value.null).size : Int) = nrm n
    rw [Array.size_replicate, clampI]
    omega
  · have hj : j < (Array.replicate (iI n).toNatClampNeg Value.null).size := hj
    rw [Array.size_replicate] at hj
    show (Array.replicate (iI n).toNatClampNeg Value.null)[j]? = some (mv (aw_el t) _ _) ∧ fits (aw_el t) (mv (aw_el t) _ _) = true
    rw [hty, Array.getElem?_replicate, if_pos hj]
    exact ⟨rfl, rfl⟩
/-- casts to a class of known kinds -/
def castOk (ts : List Nat) (nm : String) : Prop := ∀ t ∈ ts, clsOk t ∧ ((aw_c t).1 = nm ∨ ((aw_c t).1, nm) ∈ aw_cs)
theorem cls_at {p : Program} {l : Launch} {e : Env} {R : Room} {s : State} {m : MethodId} {args : Array Value} {below : List Frame} {meth : Method} {c : Code} {H : Heap} {D : va_G} {A : Nat → Prop} {a : Nat} {x : Ce} (O : Ok M σ0 out.2 p l e R s m args below meth c D A) (hc : hld D A s H a x) (ck : clsOk x.1) : ∃ cell : Cell, H[a]? = some cell ∧ cell.vm.isStatics = false ∧ s.vm.findClass (aw_c x.1).1 = some cell.cls := by
  obtain ⟨cell, g1, g2, g3, g4, g5, -⟩ := hc
  refine ⟨cell, g1, g2, ?_⟩
  rw [(g5 ck.2.1).1]
  exact (O.2.2.2.1 _ ck.1).2.1
theorem AW.cast {β : Type} {F : Option Nat → Option β} {w : β} {index : Nat} {ts : List Nat} {r : Option Nat} {nm : String} (d : decode M.2.1 pc = .ok (.checkcast index, 3)) (q : Cond.classLink M.1.cls index nm ∈ lw_all) (hok : castOk ts nm)
    (h : (kst σ ts r).bind F = some w) (kk : ∀ v : Option Nat, F v = some w → AW M σ0 out (pc + 3) L (rV v :: st) σ) : AW M σ0 out pc L (rV r :: st) σ := by
  obtain ⟨v, hv, h9⟩ := ob_some h
  obtain ⟨a, x, rfl, rfl, hx, hm⟩ := kst_some hv
  refine AW.sim (kk _ h9) fun p l e R s m args below meth c D A O H locs ls cells slots Q h0 hR hS hL w => ?_
  obtain ⟨ck, hn⟩ := hok _ hm
  have hcl := cls_at O (hR.2 _ _ hx) ck
  rcases hn with hn | hn
  · rw [hn] at hcl
    exact va_castE O.1.1 O.1.2.1 O.1.2.2.2.2.1 (O.1.2.2.2.2.2 _ q) hcl d w
  · exact va_castY O.1.1 O.1.2.1 O.1.2.2.2.2.1 (O.1.2.2.2.2.2 _ q) (O.2.2.2.2.2.1 _ hn) hcl d w
theorem AW.inst {β : Type} {F : Option Nat → Option β} {w : β} {index : Nat} {ts : List Nat} {r : Option Nat} {nm : String} (d : decode M.2.1 pc = .ok (.instanceof index, 3)) (q : Cond.classLink M.1.cls index nm ∈ lw_all) (hok : ∀ t ∈ ts, clsOk t ∧ (aw_c t).1 = nm)
    (h : (kst σ ts r).bind F = some w) (kk : ∀ v : Option Nat, F v = some w → AW M σ0 out (pc + 3) L (iV 1 :: st) σ) : AW M σ0 out pc L (rV r :: st) σ := by
  obtain ⟨v, hv, h9⟩ := ob_some h
  obtain ⟨a, x, rfl, rfl, hx, hm⟩ := kst_some hv
  refine AW.sim (kk _ h9) fun p l e R s m args below meth c D A O H locs ls cells slots Q h0 hR hS hL w => ?_
  obtain ⟨ck, hn⟩ := hok _ hm
  have hcl := cls_at O (hR.2 _ _ hx) ck
  rw [hn] at hcl
  exact va_instE O.1.1 O.1.2.1 O.1.2.2.2.2.1 (O.1.2.2.2.2.2 _ q) hcl d w
theorem AW.getN {β : Type} {F : Option Nat → Option β} {w : β} {index : Nat} {r : Option Nat} (d : decode M.2.1 pc = .ok (.getfield index, 3)) (q : Cond.fieldLink M.1.cls index "LateMirrors$Named" "name" "Ljava/lang/String;" ∈ lw_all)
    (h : (gN σ r).bind F = some w) (kk : ∀ v : Option Nat, F v = some w → AW M σ0 out (pc + 3) L (rV v :: st) σ) : AW M σ0 out pc L (rV r :: st) σ := by
  obtain ⟨v, hv, h9⟩ := ob_some h
  unfold gN at hv
  obtain ⟨r1, hr, hw⟩ := ob_some hv
  obtain ⟨a, x, rfl, rfl, hx, hm⟩ := kst_some hr
  rw [Option.bind_some, hx, Option.bind_some] at hw
  cases hw
  refine AW.sim (kk _ h9) fun p l e R s m args below meth c D A O H locs ls cells slots Q h0 hR hS hL w => ?_
  simp only [List.mem_cons, List.not_mem_nil, or_false] at hm
  rcases hm with hm | hm | hm
  · exact fld_get (t := 10) (k := 0) O (hR.2 _ _ hx) hm ck10 (by decide) q (Or.inl rfl) d w
  · exact fld_get (t := 11) (k := 0) O (hR.2 _ _ hx) hm ck11 (by decide) q (Or.inl rfl) d w
  · exact fld_get (t := 17) (k := 0) O (hR.2 _ _ hx) hm ck17 (by decide) q (Or.inl rfl) d w
theorem eT_ok : ∀ t ∈ [108, 109, 110, 111], ∀ C : String, aw_el t = .object C → ∀ x ∈ eT t, clsOk x ∧ ((aw_c x).1 = C ∨ ((aw_c x).1, C) ∈ aw_cs) := by
  intro t ht C hC x hx
  simp only [List.mem_cons, List.not_mem_nil, or_false] at ht
  rcases ht with rfl | rfl | rfl | rfl
  · cases hC
    simp only [eT, List.mem_cons, List.not_mem_nil, or_false] at hx
    rcases hx with rfl
    exact ⟨ck50, Or.inl rfl⟩
  · cases hC
    simp only [eT, List.mem_cons, List.not_mem_nil, or_false] at hx
    rcases hx with rfl | rfl | rfl
    · exact ⟨ck10, Or.inr (by decide)⟩
    · exact ⟨ck11, Or.inr (by decide)⟩
    · exact ⟨ck17, Or.inr (by decide)⟩
  · cases hC
    simp only [eT, List.mem_cons, List.not_mem_nil, or_false] at hx
    rcases hx with rfl
    exact ⟨ck5, Or.inl rfl⟩
  · cases hC
    simp only [eT, List.mem_cons, List.not_mem_nil, or_false] at hx
    rcases hx with rfl | rfl | rfl
    · exact ⟨ck14, Or.inr (by decide)⟩
    · exact ⟨ck15, Or.inr (by decide)⟩
    · exact ⟨ck16, Or.inr (by decide)⟩
theorem AW.aast {β : Type} {F : Hp → Option β} {w : β} {t : Nat} {r v : Option Nat} {i : Int} {C : String} (d : decode M.2.1 pc = .ok (.aastore, 1)) (htm : t ∈ [108, 109, 110, 111]) (ht : 100 ≤ t) (hmu : mutT t) (hty : aw_el t = .object C)
    (h : (sE σ t r i v).bind F = some w) (kk : ∀ σ1 : Hp, F σ1 = some w → AW M σ0 out (pc + 1) L st σ1) : AW M σ0 out pc L (rV v :: iV i :: rV r :: st) σ := by
  obtain ⟨σ1, hv, h9⟩ := ob_some h
  unfold sE at hv
  obtain ⟨v1, hv1, hv2⟩ := ob_some hv
  obtain ⟨b, y, rfl, rfl, hy, hm⟩ := kst_some hv1
  unfold sR at hv2
  obtain ⟨x, hx, hw⟩ := ob_some hv2
  obtain ⟨rfl, h2, h3⟩ := cel_some hx
  obtain ⟨hi, hw2⟩ := pz_elim hw
  cases hw2
  obtain ⟨a, x1, n, f, g⟩ := x
  have h3 : x1 = t := h3
  subst h3
  refine AW.wrt (kk _ h9) (fun p l e R s m args below meth c D A O H locs ls cells slots Q hR hA w => ?_) h2 hmu
  obtain ⟨cell, g1, g2, g3, g4, -, g6⟩ := hR.2 _ _ h2
  have g6 := g6 ht
  obtain ⟨i1, i2, i3⟩ := ar_in g6.2.2.1 hi
  obtain ⟨ck, hn⟩ := eT_ok x1 htm C hty _ hm
  obtain ⟨cv, v1, v2, v3⟩ := cls_at O (hR.2 _ _ hy) ck
  obtain ⟨kA, comp, r1, r2, r3, r4⟩ := g6.2.1 C hty hmu
  obtain ⟨-, hfv, kv, hkv, -⟩ := O.2.2.2.1 _ ck.1
  have ecls : D.1 y.1 = cv.cls := Option.some.inj (hfv.symm.trans v3)
  rw [ecls] at hkv
  have hcomp : ∃ kcomp : Class, s.vm.classes[comp]? = some kcomp ∧ s.vm.assignable cv.cls comp = true := by
    rcases hn with hn | hn
    · rw [hn] at v3
      have e1 : comp = cv.cls := Option.some.inj (r3.symm.trans v3)
      exact ⟨kv, by rw [e1]; exact hkv, by rw [e1]; exact va_asg _ _⟩
    · obtain ⟨c0, t0, f1, f2, f3⟩ := Cond.castable_spec (va_Nw.use (A := args) rfl (O.2.2.2.2.2.1 _ hn))
      have e1 : c0 = cv.cls := Option.some.inj (f1.symm.trans v3)
      have e2 : t0 = comp := Option.some.inj (f2.symm.trans r3)
      subst e1; subst e2
      obtain ⟨kc, hkc, -⟩ := Vm.findClass_spec r3
      exact ⟨kc, hkc, f3⟩
  obtain ⟨kcomp, hk1, hk2⟩ := hcomp
  refine W.aast O.1.1 O.1.2.1 g1 g6.1.1 g3 r1 r2 rfl hk1 ⟨fun q => i1 (Or.inl q), i3⟩ v1 ?_ hkv hk2 rfl rfl d fun H1 e1 e2 e3 => ?_
  · intro q hq
    rw [hq] at v2
    cases v2
  refine w H1 _ e2 e3 (ar_set g2 g3 g4 rfl ht g6 rfl i3 ?_ (by rw [hty]; rfl) (fun j hj => mv_fuR (by omega)) e1)
  rw [i2]
  show mv (aw_el x1) (x1, n, f, fu g (nrm i) (some b)) (nrm i) = _
  rw [hty]
  show va_rf (fu g (nrm i) (some b) (nrm i)) = _
  rw [fu_self]
  rfl
end

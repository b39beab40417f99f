/-! rows that make cells, copy arrays, store references -/
set_option maxRecDepth 100000
def zgood : FieldType → Bool
  | .float => false
  | .double => false
  | _ => true
theorem zty_ok {c : Nat} {r : vw_C} (h : zCl[c]? = some r) : ∀ k, k < r.2.2 → zgood (zty c k) = true := by
  match c, h with
  | 0, h => cases h; decide +kernel
  | 1, h => cases h; decide +kernel
  | 2, h => cases h; decide +kernel
  | 3, h => cases h; decide +kernel
  | 4, h => cases h; decide +kernel
  | 5, h => cases h; decide +kernel
  | 6, h => cases h; decide +kernel
  | 7, h => cases h; decide +kernel
  | 8, h => cases h; decide +kernel
  | 9, h => cases h; decide +kernel
  | 10, h => cases h; decide +kernel
  | 11, h => cases h; decide +kernel
  | 12, h => cases h; decide +kernel
  | 13, h => cases h; decide +kernel
  | 14, h => cases h; decide +kernel
  | c + 15, h => simp [zCl] at h
section AL
variable {Z : Zt} {Q : State → Prop} {μ μ1 : Me} {pc : Nat} {L : List (Nat × Value)} {st : List Value} {y : MethodName} {cc : ByteArray} {ret : Option FieldType} {lv nl : Nat}
theorem alloc_ok {D : va_G} {b0 : Nat} {H0 H : Heap} {R : Room} {locs : List Loc} {c N : Nat} {n : Int} {q : Nat × Me} {x : Cell} (hb : b0 ≤ H0.size) (hR : RP D b0 μ H) (hS : SS b0 H0 R μ H locs) (h : nC μ c n N = some q) (hx : x.slots.size = N) (ha : okA D q.2 (H.push x) H.size) :
    q.1 = H.size ∧ RP D b0 q.2 (H.push x) ∧ SS b0 H0 R q.2 (H.push x) locs ∧ 1 ≤ μ.1.1.2.1 ∧ N ≤ μ.1.1.2.2 := by
  obtain ⟨⟨h1, h2⟩, e⟩ := ib_ h
  obtain ⟨s1, s2, s3, s4⟩ := hS
  have hz := s1.1
  subst e
  have hnx : H.size = μ.1.1.1 := hR.1
  refine ⟨hnx.symm, ⟨by rw [Array.size_push, hnx], fun a => ?_, fun a h9 => ?_⟩, ⟨⟨by rw [Array.size_push]; omega, fun q g1 g2 => ?_, s1.2.2⟩, fun q g => ?_, ?_, ?_⟩, h1, h2⟩
  · by_cases e : a = H.size
    · subst e
      exact ha
    · have e2 : a ≠ μ.1.1.1 := by rw [← hnx]; exact e
      refine (hR.2.1 a).congr (up1_n _ _ e2) (up1_n _ _ e2) (up1_n _ _ e2) (up1_n _ _ e2) (up1_n _ _ e2) ?_
      rw [Array.getElem?_push, if_neg e]
  · by_cases e : a = μ.1.1.1
    · rw [e, ← hnx]; exact Nat.le_trans hb hz
    · have h9 : up1 μ.1.2.1 μ.1.1.1 c a ≠ 99 := h9
      rw [up1_n _ _ e] at h9
      exact hR.2.2 a h9
  · rw [Array.getElem?_push, if_neg (by omega)]
    exact s1.2.1 q g1 g2
  · rw [Array.getElem?_push, if_neg (by omega)]
    exact s2 q g
  · rw [Array.size_push]
    show _ + (μ.1.1.2.1 - 1) ≤ _
    omega
  · rw [nsl_push x hz, hx]
    show _ + (μ.1.1.2.2 - N) ≤ _
    omega
theorem nC_ty {c N : Nat} {n : Int} {q : Nat × Me} (h : nC μ c n N = some q) : q.2.1.2.1 μ.1.1.1 = c ∧ q.2.1.2.2.1 μ.1.1.1 = n ∧ q.2.1.2.2.2 μ.1.1.1 = (fun _ => none) ∧ q.2.2.1 μ.1.1.1 = (fun _ => 0) ∧ q.2.2.2 μ.1.1.1 = fun _ => 0 := by
  obtain ⟨-, e⟩ := ib_ h
  subst e
  exact ⟨up1_s _ _ _, up1_s _ _ _, up1_s _ _ _, up1_s _ _ _, up1_s _ _ _⟩
theorem r_new (C : CX Z y cc ret lv nl) {c idx : Nat} {r : vw_C} {q : Nat × Me} (hc : zCl[c]? = some r) (h : nO μ c r.2.2 = some q) (qk : Cond.classLink y.cls idx r.1 ∈ lw_all) (qi : Cond.instantiable r.1 r.2.2 ∈ lw_all) (qn : Cond.initialized r.1 ∈ lw_all) (d : decode cc pc = .ok (.new idx, 3))
    (k : WL Z Q q.2 (pc + 3) L (vO q.1 :: st)) : WL Z Q μ pc L st := by
  intro H locs ls hR hS hl
  have hKn := C.kt.1.1 c r hc
  have hsp := (ib_ h).1
  have hrm := hS.room
  refine W.newc C.ex C.by_ C.own (C.hts _ qk) (C.hts _ qi) (C.hts _ qn) rfl d (by omega) (by omega) fun cC kC h1 h2 h3 h4 => ?_
  have e1 : cC = Z.2.2.2.2.2.2.2.2.2.2.1.1 c := Option.some.inj (h1.symm.trans hKn.2.1)
  subst e1
  obtain ⟨t1, t2, t3, t4, t5⟩ := nC_ty h
  have hnx : H.size = μ.1.1.1 := hR.1
  obtain ⟨g1, g2, g3, -⟩ := alloc_ok (x := { cls := Z.2.2.2.2.2.2.2.2.2.2.1.1 c, slots := kC.instanceTypes.map defaultValue, vm := .none }) C.b0 hR hS h (by simp [h4]) (by
    refine ⟨fun c' r' hc' ht => ?_, fun t l1 l2 ht => ?_⟩
    · rw [hnx, t1] at ht
      subst ht
      rw [hc] at hc'
      cases hc'
      have hb := u_born (o := H.size) (H := H.push { cls := Z.2.2.2.2.2.2.2.2.2.2.1.1 c, slots := kC.instanceTypes.map defaultValue, vm := .none }) (zty c) C.hts (zCl_ok hc).1 hKn h2 (by rw [Array.getElem?_push_size]; rfl) (zCl_ok hc).2.1
      refine hb.to (fun j hj => ?_)
      have hg := zty_ok hc j hj
      unfold fV
      rw [hnx, t3, t4, t5]
      cases e : zty c j <;> first | rfl | (rw [e] at hg; cases hg)
    · rw [hnx, t1] at ht
      have := zCl_lt hc
      omega)
  rw [← g1]
  exact W.exact (k _ _ ls g2 g3 hl)
theorem r_newa (C : CX Z y cc ret lv nl) {t kt : Nat} {ty : FieldType} {atype : ArrayType} {n : Int} {q : Nat × Me} (h : nA μ t n = some q) (hty : newarray.typeOf atype = ty) (hk : (t = 101 ∧ kt = 0 ∧ ty = .int) ∨ (t = 102 ∧ kt = 1 ∧ ty = .byte) ∨ (t = 103 ∧ kt = 2 ∧ ty = .long)) (qa : Cond.arrayClass ty ∈ lw_all) (d : decode cc pc = .ok (.newarray atype, 2))
    (k : WL Z Q q.2 (pc + 2) L (vO q.1 :: st)) : WL Z Q μ pc L (vI n :: st) := by
  intro H locs ls hR hS hl
  obtain ⟨⟨hn0, hn1⟩, h⟩ : (0 ≤ w32 n ∧ w32 n < 60000000) ∧ nC μ t (w32 n) (w32 n).toNat = some q := by
    unfold nA at h
    by_cases e : 0 ≤ w32 n ∧ w32 n < 60000000
    · rw [if_pos e] at h; exact ⟨e, h⟩
    · rw [if_neg e] at h; cases h
  have hsp := (ib_ h).1
  have hrm := hS.room
  have hcl := z_clamp n
  have hnn : ¬ Int32.ofInt n < 0 := by rw [z_lt0]; omega
  have hcb : componentBytes ty ≤ 8 := by rcases hk with ⟨-, -, e⟩ | ⟨-, -, e⟩ | ⟨-, -, e⟩ <;> rw [e] <;> decide
  have hht : (zTy Z.2.2.2.2.2.2.2.2.2.2.1)[kt]? = some (Z.2.2.2.2.2.2.2.2.2.2.1.1 t, ty) := by rcases hk with ⟨e1, e2, e3⟩ | ⟨e1, e2, e3⟩ | ⟨e1, e2, e3⟩ <;> rw [e1, e2, e3] <;> rfl
  have hra : Z.2.2.2.2.1.vm.findClass ("[" ++ ty.toString) = some (Z.2.2.2.2.2.2.2.2.2.2.1.1 t) := by
    have h9 := (C.kt.1.2 kt _ hht).2
    rcases hk with ⟨-, -, e⟩ | ⟨-, -, e⟩ | ⟨-, -, e⟩ <;> subst e <;> exact h9
  subst hty
  refine W.newa C.ex C.by_ (C.hts _ qa) rfl d rfl hnn ?_ (by omega) (by omega) fun cA kA comp h1 h2 h3 => ?_
  · rw [hcl]
    have : (w32 n).toNat * componentBytes (newarray.typeOf atype) ≤ 60000000 * 8 := Nat.mul_le_mul (by omega) hcb
    omega
  have e1 : cA = Z.2.2.2.2.2.2.2.2.2.2.1.1 t := Option.some.inj (h1.symm.trans hra)
  subst e1
  obtain ⟨t1, t2, t3, t4, t5⟩ := nC_ty h
  have hnx : H.size = μ.1.1.1 := hR.1
  obtain ⟨g1, g2, g3, -⟩ := alloc_ok (x := { cls := Z.2.2.2.2.2.2.2.2.2.2.1.1 t, slots := Array.replicate (Int32.ofInt n).toNatClampNeg (defaultValue (newarray.typeOf atype)), vm := .none }) C.b0 hR hS h (by rw [Array.size_replicate, hcl]) (by
    refine ⟨fun c' r' hc' ht => ?_, fun t' l1 l2 ht => ?_⟩
    · rw [hnx, t1] at ht
      have := zCl_lt hc'
      omega
    · rw [hnx, t1] at ht
      subst ht
      rw [hnx, t2, ← hnx]
      refine ⟨?_, hn0, by omega⟩
      rw [Array.getElem?_push_size, arrV_new, hcl]
      congr 2
      funext j
      unfold aV
      rw [hnx, t3, t4, t5]
      rcases hk with ⟨e1, -, e3⟩ | ⟨e1, -, e3⟩ | ⟨e1, -, e3⟩ <;> rw [e1, e3] <;> rfl)
  rw [← g1]
  exact W.exact (k _ _ ls g2 g3 hl)
theorem r_anew (C : CX Z y cc ret lv nl) {t kt idx : Nat} {cn : String} {n : Int} {q : Nat × Me} (h : nA μ t n = some q) (ht : (zTy Z.2.2.2.2.2.2.2.2.2.2.1)[kt]? = some (Z.2.2.2.2.2.2.2.2.2.2.1.1 t, .object cn)) (h4 : 104 ≤ t ∧ t ≤ 107) (ho : va_AO cn Z.2.2.2.2.1) (qk : Cond.classLink y.cls idx cn ∈ lw_all) (d : decode cc pc = .ok (.anewarray idx, 3))
    (k : WL Z Q q.2 (pc + 3) L (vO q.1 :: st)) : WL Z Q μ pc L (vI n :: st) := by
  intro H locs ls hR hS hl
  obtain ⟨⟨hn0, hn1⟩, h⟩ : (0 ≤ w32 n ∧ w32 n < 60000000) ∧ nC μ t (w32 n) (w32 n).toNat = some q := by
    unfold nA at h
    by_cases e : 0 ≤ w32 n ∧ w32 n < 60000000
    · rw [if_pos e] at h; exact ⟨e, h⟩
    · rw [if_neg e] at h; cases h
  have hsp := (ib_ h).1
  have hrm := hS.room
  have hcl := z_clamp n
  have hnn : ¬ Int32.ofInt n < 0 := by rw [z_lt0]; omega
  obtain ⟨kA0, comp0, r1, r2, r3, r4⟩ := (C.kt.1.2 kt _ ht).2
  refine W.anew C.ex C.by_ C.own (C.hts _ qk) (va_AO.use ho) rfl d rfl hnn (by rw [hcl]; omega) (by omega) (by omega) fun cA kA comp h1 h2 h3 h5 => ?_
  have e1 : cA = Z.2.2.2.2.2.2.2.2.2.2.1.1 t := Option.some.inj (h1.symm.trans r4)
  subst e1
  obtain ⟨t1, t2, t3, t4, t5⟩ := nC_ty h
  have hnx : H.size = μ.1.1.1 := hR.1
  obtain ⟨g1, g2, g3, -⟩ := alloc_ok (x := { cls := Z.2.2.2.2.2.2.2.2.2.2.1.1 t, slots := Array.replicate (Int32.ofInt n).toNatClampNeg .null, vm := .none }) C.b0 hR hS h (by rw [Array.size_replicate, hcl]) (by
    refine ⟨fun c' r' hc' ht => ?_, fun t' l1 l2 ht => ?_⟩
    · rw [hnx, t1] at ht
      have := zCl_lt hc'
      omega
    · rw [hnx, t1] at ht
      subst ht
      rw [hnx, t2, ← hnx]
      refine ⟨?_, hn0, by omega⟩
      rw [Array.getElem?_push_size, arrV_new, hcl]
      congr 2
      funext j
      unfold aV
      rw [hnx, t3, t4, t5, if_neg (by omega), if_neg (by omega)]
      rfl)
  rw [← g1]
  exact W.exact (k _ _ ls g2 g3 hl)
theorem r_objInit (C : CX Z y cc ret lv nl) {idx a : Nat} (ql : Cond.methodLink y.cls idx Lib.objectInit ∈ lw_all) (qi : Cond.instanceMethod Lib.objectInit ∈ lw_all) (qc : Cond.code Lib.objectInit ⟨#[0xb1]⟩ 1 none ∈ lw_all) (hlv : 1 ≤ lv) (hst : (st.map fun v => v.category).sum ≤ 8) (d : decode cc pc = .ok (.invokespecial idx, 3))
    (k : WL Z Q μ (pc + 3) L st) : WL Z Q μ pc L (vO a :: st) := by
  intro H locs ls hR hS hl
  have hf := C.fr
  refine W.objInit C.ex C.by_ C.own (C.hts _ ql) (C.hts _ qi) (C.hts _ qc) rfl (by show ls.size = _; rw [C.ml]; exact hl.1) rfl d (by omega) (by show 2 * 0 + _ + 12 ≤ _; omega) (k H locs ls hR hS hl)
/-- stores of a reference into an array of references -/
theorem rast_ok (C : CX Z y cc ret lv nl) {H : Heap} {locs : List Loc} (hR : RP Z.2.2.2.2.2.2.2.2.2.2.1 Z.2.2.2.2.2.2.2.2.2.2.2.1 μ H) (hS : SS Z.2.2.2.2.2.2.2.2.2.2.2.1 Z.2.2.2.2.1.heap Z.2.2.2.1 μ H locs) {t c kt a v : Nat} {j : Int} {ty : FieldType} (h4 : 104 ≤ t ∧ t ≤ 107) (ht : (zTy Z.2.2.2.2.2.2.2.2.2.2.1)[kt]? = some (Z.2.2.2.2.2.2.2.2.2.2.1.1 t, ty)) (h : uR μ t c a j v = some μ1) :
    μ.1.2.1 v = c ∧ ∃ cell : Cell, H[a]? = some cell ∧ Z.2.2.2.2.1.isArrayOf cell ty ∧ cell.cls = Z.2.2.2.2.2.2.2.2.2.2.1.1 t ∧ cell.vm = .none ∧ (¬ Int32.ofInt j < 0 ∧ (Int32.ofInt j).toNatClampNeg < cell.slots.size) ∧ ∀ H1 : Heap, H1[a]? = some (cell.setSlot (Int32.ofInt j).toNatClampNeg (vO v)) → H1.size = H.size → (∀ q : Nat, q ≠ a → H1[q]? = H[q]?) →
      RP Z.2.2.2.2.2.2.2.2.2.2.1 Z.2.2.2.2.2.2.2.2.2.2.2.1 μ1 H1 ∧ SS Z.2.2.2.2.2.2.2.2.2.2.2.1 Z.2.2.2.2.1.heap Z.2.2.2.1 μ1 H1 (locs ++ [⟨a, (Int32.ofInt j).toNatClampNeg⟩]) ∧ H1.size = H.size ∧ nsl Z.2.2.2.2.1.heap.size H1 = nsl Z.2.2.2.2.1.heap.size H := by
  obtain ⟨⟨hv, h1⟩, h2⟩ := ib_ h
  subst h2
  obtain ⟨g1, g2, g3⟩ := (hR.2.1 a).2 t (by omega) h4.2 h1.1
  have hin := z_in h1.2.1 h1.2.2
  refine ⟨hv, _, g1, (C.kt.1.2 kt _ ht).1 _ _, rfl, rfl, ⟨fun q => hin (Or.inl q), by rw [arrV_size]; exact Nat.not_le.mp fun q => hin (Or.inr q)⟩, fun H1 e1 e2 e3 => ?_⟩
  obtain ⟨cell, k1, -, -, -, k5⟩ := ast_ok (μ1 := sR μ a (upz (μ.1.2.2.2 a) (w32 j) (some v))) (x := vO v) C hR hS ht (by omega) h4.2 h1 ⟨rfl, rfl, rfl⟩ (fun q hq => ⟨up1_n _ _ hq, rfl, rfl⟩) (by
    funext q
    have e9 : ∀ m9 : Me, aV m9 t a q = va_rf (m9.1.2.2.2 a q) := fun m9 => by
      unfold aV
      rw [if_neg (show ¬ t = 103 by omega), if_neg (show ¬ t ≤ 102 by omega)]
    unfold updV
    have := h1.2.1
    rw [e9, e9]
    by_cases e : q = (w32 j).toNat
    · rw [if_pos e]
      have e2 : (q : Int) = w32 j := by omega
      simp [sR, up1, upz, e2, va_rf]
    · rw [if_neg e]
      have e2 : ¬ (q : Int) = w32 j := by omega
      simp [sR, up1, upz, e2])
  rw [g1] at k1
  cases k1
  exact k5 H1 e1 e2 e3
theorem assign_self (vm : Vm) (c : ClassId) : vm.assignable c c = true := by
  show Vm.assignableAux vm (255 + 1) c c = true
  unfold Vm.assignableAux
  simp
/-- an object of class r into an array of E -/
theorem r_aast (C : CX Z y cc ret lv nl) {t c kt a v : Nat} {j : Int} {E : String} {r : vw_C} (h : uR μ t c a j v = some μ1) (hc : zCl[c]? = some r) (h4 : 104 ≤ t ∧ t ≤ 107) (ht : (zTy Z.2.2.2.2.2.2.2.2.2.2.1)[kt]? = some (Z.2.2.2.2.2.2.2.2.2.2.1.1 t, .object E)) (hca : r.1 = E ∨ Cond.castable r.1 E ∈ lw_nst) (d : decode cc pc = .ok (.aastore, 1))
    (k : WL Z Q μ1 (pc + 1) L st) : WL Z Q μ pc L (vO v :: vI j :: vO a :: st) := by
  intro H locs ls hR hS hl
  obtain ⟨hv, cell, g1, g2, g3, g4, g5, g6⟩ := rast_ok C hR hS h4 ht h
  obtain ⟨cv, q1, q2, q3, -⟩ := (hR.2.1 v).1 c r hc hv
  obtain ⟨kA, comp, r1, r2, r3, r4⟩ := (C.kt.1.2 kt _ ht).2
  have hcls := (C.kt.1.1 c r hc).2
  obtain ⟨kC, hkC, -⟩ := hcls.2
  obtain ⟨kE, hkE, -⟩ := Vm.findClass_spec r3
  refine W.aast C.ex C.by_ g1 (fun q e => by rw [g4] at e; cases e) (fun e => by rw [g4] at e; cases e) (by rw [g3]; exact r1) r2 rfl hkE g5 q1 (fun q e => by rw [q3] at e; cases e) (by rw [q2]; exact hkC) ?_ rfl rfl d fun H1 e1 e2 e3 => ?_
  · rw [q2]
    rcases hca with e | e
    · rw [e] at hcls
      have : comp = Z.2.2.2.2.2.2.2.2.2.2.1.1 c := Option.some.inj (r3.symm.trans hcls.1)
      rw [this]
      exact assign_self _ _
    · exact vb_asgC (C.kt.2.1 _ e) comp _ r3 hcls.1
  obtain ⟨hR1, hS1, z1, z2⟩ := g6 H1 e1 e2 e3
  rw [← z1, ← z2]
  exact k H1 _ ls hR1 hS1 hl
/-- an int[] into an int[][] -/
theorem r_aastA (C : CX Z y cc ret lv nl) {a v : Nat} {j : Int} (h : uR μ 105 101 a j v = some μ1) (d : decode cc pc = .ok (.aastore, 1))
    (k : WL Z Q μ1 (pc + 1) L st) : WL Z Q μ pc L (vO v :: vI j :: vO a :: st) := by
  intro H locs ls hR hS hl
  obtain ⟨hv, cell, g1, g2, g3, g4, g5, g6⟩ := rast_ok C hR hS (kt := 4) ⟨by decide, by decide⟩ rfl h
  obtain ⟨q1, -, -⟩ := (hR.2.1 v).2 101 (by decide) (by decide) hv
  obtain ⟨comp, c1, kA, r1, -, r2, r3, r4⟩ := zAO_spec C.kt.2.2.2.2.2.1
  have f1 : Z.2.2.2.2.1.vm.findClass ("[" ++ (FieldType.array .int).toString) = some (Z.2.2.2.2.2.2.2.2.2.2.1.1 105) := (C.kt.1.2 4 _ rfl).2
  have f2 : Z.2.2.2.2.1.vm.findClass ("[" ++ FieldType.int.toString) = some (Z.2.2.2.2.2.2.2.2.2.2.1.1 101) := (C.kt.1.2 0 _ rfl).2
  have e0 : c1 = Z.2.2.2.2.2.2.2.2.2.2.1.1 105 := Option.some.inj (r4.symm.trans f1)
  subst e0
  have e1 : comp = Z.2.2.2.2.2.2.2.2.2.2.1.1 101 := Option.some.inj (r1.symm.trans f2)
  subst e1
  obtain ⟨kE, hkE, -⟩ := Vm.findClass_spec r1
  refine W.aast C.ex C.by_ g1 (fun q e => by rw [g4] at e; cases e) (fun e => by rw [g4] at e; cases e) (by rw [g3]; exact r2) r3 rfl hkE g5 q1 (fun q e => by cases e) hkE (assign_self _ _) rfl rfl d fun H1 e1 e2 e3 => ?_
  obtain ⟨hR1, hS1, z1, z2⟩ := g6 H1 e1 e2 e3
  rw [← z1, ← z2]
  exact k H1 _ ls hR1 hS1 hl
end AL

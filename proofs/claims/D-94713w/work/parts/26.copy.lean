/-! System.arraycopy, multianewarray -/
set_option maxRecDepth 100000
def isSg (t : Nat) : Bool := t == 2 || t == 10 || t == 11 || t == 12 || t == 13 || t == 14
def cpI (μ : Me) (s : Nat) (sp : Int) (t : Nat) (tp n : Int) : Option Me :=
  if μ.1.2.1 s = 101 ∧ μ.1.2.1 t = 101 ∧ 0 ≤ w32 sp ∧ 0 ≤ w32 tp ∧ 0 ≤ w32 n ∧ w32 sp + w32 n ≤ μ.1.2.2.1 s ∧ w32 tp + w32 n ≤ μ.1.2.2.1 t then
    some (sI μ t (cpz (μ.2.1 s) (μ.2.1 t) (w32 sp) (w32 tp) (w32 n))) else none
def cpQ (μ : Me) (s : Nat) (sp : Int) (t : Nat) (tp n : Int) : Option Me :=
  if μ.1.2.1 s = 106 ∧ μ.1.2.1 t = 106 ∧ 0 ≤ w32 sp ∧ 0 ≤ w32 tp ∧ 0 ≤ w32 n ∧ w32 sp + w32 n ≤ μ.1.2.2.1 s ∧ w32 tp + w32 n ≤ μ.1.2.2.1 t ∧ ((List.range (w32 n).toNat).all fun i => match μ.1.2.2.2 s (w32 sp + i) with | none => true | some a => isSg (μ.1.2.1 a)) = true then
    some (sR μ t (cpz (μ.1.2.2.2 s) (μ.1.2.2.2 t) (w32 sp) (w32 tp) (w32 n))) else none
section CP
variable {Z : Zt} {Q : State → Prop} {μ μ1 : Me} {pc : Nat} {L : List (Nat × Value)} {st : List Value} {y : MethodName} {cc : ByteArray} {ret : Option FieldType} {lv nl : Nat}
/-- the memory moves at one address: any list of places there -/
theorem store_okL {D : va_G} {b0 : Nat} {H0 H H1 : Heap} {R : Room} {a : Nat} {locs L1 : List Loc} {cell cell1 : Cell} (hR : RP D b0 μ H) (hS : SS b0 H0 R μ H locs) (hcell : H[a]? = some cell) (e1 : H1[a]? = some cell1) (hsz : cell1.slots.size = cell.slots.size) (e2 : H1.size = H.size) (e3 : ∀ q : Nat, q ≠ a → H1[q]? = H[q]?)
    (hs : μ1.1.1 = μ.1.1 ∧ μ1.1.2.1 = μ.1.2.1 ∧ μ1.1.2.2.1 = μ.1.2.2.1) (ho : ∀ q : Nat, q ≠ a → μ1.1.2.2.2 q = μ.1.2.2.2 q ∧ μ1.2.1 q = μ.2.1 q ∧ μ1.2.2 q = μ.2.2 q) (ha : okA D μ1 H1 a) (hab : b0 ≤ a) (hL1 : ∀ z ∈ L1, z.base = a) :
    RP D b0 μ1 H1 ∧ SS b0 H0 R μ1 H1 (locs ++ L1) ∧ H1.size = H.size ∧ nsl H0.size H1 = nsl H0.size H := by
  obtain ⟨g1, g2, g3, g4⟩ := store_ok (k := 0) hR hS hcell e1 hsz e2 e3 hs ho ha hab
  refine ⟨g1, ⟨⟨g2.1.1, g2.1.2.1, fun z hz => ?_⟩, g2.2⟩, g3, g4⟩
  rcases List.mem_append.mp hz with h | h
  · exact hS.1.2.2 z h
  · rw [hL1 z h]; exact hab
theorem z_nn {z : Int} (h : 0 ≤ w32 z) : ¬ Int32.ofInt z < 0 := by rw [z_lt0]; omega
theorem z_tI {z : Int} (h : 0 ≤ w32 z) : (Int32.ofInt z).toInt = ((Int32.ofInt z).toNatClampNeg : Int) := by rw [z_clamp, w32_eq]; omega
theorem isSg_cast {t : Nat} (h : isSg t = true) : ∃ (c : Nat) (r : vw_C), zCl[c]? = some r ∧ t = c ∧ Cond.castable r.1 "LetterForms$Sign" ∈ lw_nst := by
  have h2 : t = 2 ∨ t = 10 ∨ t = 11 ∨ t = 12 ∨ t = 13 ∨ t = 14 := by
    simp [isSg] at h
    omega
  rcases h2 with e | e | e | e | e | e <;> subst e
  · exact ⟨2, (RX4, zT0, 0), rfl, rfl, lw_n q2005 rfl⟩
  · exact ⟨10, (RX12, TX12, 1), rfl, rfl, lw_n q2006 rfl⟩
  · exact ⟨11, (RX13, TX13, 1), rfl, rfl, lw_n q2007 rfl⟩
  · exact ⟨12, (RX15, TX15, 3), rfl, rfl, lw_n q2008 rfl⟩
  · exact ⟨13, (RX16, TX16, 2), rfl, rfl, lw_n q2009 rfl⟩
  · exact ⟨14, (RX17, TX17, 2), rfl, rfl, lw_n q2010 rfl⟩
theorem r_copyI (C : CX Z y cc ret lv nl) {a b idx : Nat} {sp tp n : Int} (h : cpI μ a sp b tp n = some μ1) (q1 : Cond.methodLink y.cls idx arraycopyName ∈ lw_all) (q2 : Cond.native arraycopyName ∈ lw_all) (q3 : Cond.static arraycopyName ∈ lw_all) (q4 : Cond.initialized "java/lang/System" ∈ lw_all) (hlv : 1 ≤ lv) (hst : (st.map fun v => v.category).sum ≤ 8) (d : decode cc pc = .ok (.invokestatic idx, 3))
    (k : WL Z Q μ1 (pc + 3) L st) : WL Z Q μ pc L (vI n :: vI tp :: vO b :: vI sp :: vO a :: st) := by
  intro H locs ls hR hS hl T hT X
  obtain ⟨⟨ta, tb, hsp, htp, hn, hA, hB⟩, e⟩ := ib_ h
  subst e
  obtain ⟨ga, ga1, ga2⟩ := (hR.2.1 a).2 101 (by decide) (by decide) ta
  obtain ⟨gb, gb1, gb2⟩ := (hR.2.1 b).2 101 (by decide) (by decide) tb
  obtain ⟨-, k0, hk0, cm0, hkk0⟩ := (C.kt.1.2 0 _ rfl).1 (μ.1.2.2.1 a).toNat (aV μ 101 a)
  obtain ⟨-, k1, hk1, cm1, hkk1⟩ := (C.kt.1.2 0 _ rfl).1 (μ.1.2.2.1 b).toNat (aV μ 101 b)
  have hf := C.fr
  have c1 := z_clamp sp
  have c2 := z_clamp tp
  have c3 := z_clamp n
  obtain ⟨vm', X', step⟩ := X.arraycopy C.ex C.own (C.hts _ q1) (C.hts _ q2) (C.hts _ q3) (C.hts _ q4) (src := a) (dst := b) (cs := arrV (Z.2.2.2.2.2.2.2.2.2.2.1.1 101) (μ.1.2.2.1 a).toNat (aV μ 101 a)) (cd := arrV (Z.2.2.2.2.2.2.2.2.2.2.1.1 101) (μ.1.2.2.1 b).toNat (aV μ 101 b)) (srcPos := Int32.ofInt sp) (destPos := Int32.ofInt tp) (n := Int32.ofInt n) (by rw [hT]; exact ga) (by rw [hT]; exact gb)
    (fun _ h => by cases h) (fun _ h => by cases h) (fun h => by cases h) (fun h => by cases h) hk0 hk1 hkk0 hkk1 rfl (z_nn hsp) (z_nn htp) (z_nn hn)
    (by rw [arrV_size, z_tI hsp, z_tI hn]; omega) (by rw [arrV_size, z_tI htp, z_tI hn]; omega)
    (fun vm₁ _ i hi => by
      have e : (arrV (Z.2.2.2.2.2.2.2.2.2.2.1.1 101) (μ.1.2.2.1 a).toNat (aV μ 101 a)).slots.getD ((Int32.ofInt sp).toNatClampNeg + i) .null = vI (μ.2.1 a (((Int32.ofInt sp).toNatClampNeg + i : Nat) : Int)) := by
        rw [Array.getD_eq_getD_getElem?, arrV_read _ _ (by omega)]
        rfl
      rw [e]
      exact ⟨rfl, trivial⟩)
    (g := F0 Z.2.2.2.2.2.1 pc ls (vI n :: vI tp :: vO b :: vI sp :: vO a :: st)) rfl (by show ls.size = _; rw [C.ml]; exact hl.1) (rest := st) rfl (by rw [C.by_]; exact d) (by omega) (by
      have : nativeFrameWords "java/lang/System" "arraycopy" 5 ≤ 30 := by decide +kernel
      show 2 * 0 + _ + _ ≤ _
      omega)
  have e1 : copied (arrV (Z.2.2.2.2.2.2.2.2.2.2.1.1 101) (μ.1.2.2.1 a).toNat (aV μ 101 a)) (arrV (Z.2.2.2.2.2.2.2.2.2.2.1.1 101) (μ.1.2.2.1 b).toNat (aV μ 101 b)) (Int32.ofInt sp) (Int32.ofInt tp) (Int32.ofInt n) = arrV (Z.2.2.2.2.2.2.2.2.2.2.1.1 101) (μ.1.2.2.1 b).toNat (fun j => vI (va_cpy (fun j : Nat => μ.2.1 a j) (fun j : Nat => μ.2.1 b j) (Int32.ofInt sp).toNatClampNeg (Int32.ofInt tp).toNatClampNeg (Int32.ofInt n).toNatClampNeg j)) :=
    va_copied (fun z : Int => vI z) (Z.2.2.2.2.2.2.2.2.2.2.1.1 101) (Z.2.2.2.2.2.2.2.2.2.2.1.1 101) (fun j : Nat => μ.2.1 a j) (fun j : Nat => μ.2.1 b j) (by omega)
  rw [e1] at X' step
  have hv : aV (sI μ b (cpz (μ.2.1 a) (μ.2.1 b) (w32 sp) (w32 tp) (w32 n))) 101 b = fun j => vI (va_cpy (fun j : Nat => μ.2.1 a j) (fun j : Nat => μ.2.1 b j) (Int32.ofInt sp).toNatClampNeg (Int32.ofInt tp).toNatClampNeg (Int32.ofInt n).toNatClampNeg j) := by
    funext j
    show vI (up1 μ.2.1 b _ b j) = _
    rw [up1_s]
    unfold cpz va_cpy
    rw [c1, c2, c3]
    by_cases hj : (w32 tp).toNat ≤ j ∧ j < (w32 tp).toNat + (w32 n).toNat
    · rw [if_pos hj, if_pos (by omega)]
      rw [show w32 sp + ((j : Int) - w32 tp) = (((w32 sp).toNat + (j - (w32 tp).toNat) : Nat) : Int) by omega]
    · rw [if_neg hj, if_neg (by omega)]
  have hlt : b < H.size := (Array.getElem?_eq_some_iff.mp gb).1
  obtain ⟨g1, g2, g3, g4⟩ := store_okL (μ1 := sI μ b (cpz (μ.2.1 a) (μ.2.1 b) (w32 sp) (w32 tp) (w32 n))) (H1 := H.setIfInBounds b (arrV (Z.2.2.2.2.2.2.2.2.2.2.1.1 101) (μ.1.2.2.1 b).toNat (fun j => vI (va_cpy (fun j : Nat => μ.2.1 a j) (fun j : Nat => μ.2.1 b j) (Int32.ofInt sp).toNatClampNeg (Int32.ofInt tp).toNatClampNeg (Int32.ofInt n).toNatClampNeg j)))) (L1 := ((arrV (Z.2.2.2.2.2.2.2.2.2.2.1.1 101) (μ.1.2.2.1 a).toNat (aV μ 101 a)).stretch (Int32.ofInt sp).toNatClampNeg (Int32.ofInt n).toNatClampNeg).zipIdx.map fun q => (⟨b, (Int32.ofInt tp).toNatClampNeg + q.2⟩ : Loc)) hR hS gb (by simp [Array.getElem?_setIfInBounds, hlt]; rfl) (by rw [arrV_size, arrV_size]) (by simp) (fun q hq => by simp [Array.getElem?_setIfInBounds, Ne.symm hq]) ⟨rfl, rfl, rfl⟩ (fun q hq => ⟨rfl, up1_n _ _ hq, rfl⟩)
    ⟨fun c r hc hty => by
      have h9 : μ.1.2.1 b = c := hty
      have := zCl_lt hc
      omega, fun t' l1 l2 hty => by
      have h9 : μ.1.2.1 b = t' := hty
      rw [tb] at h9
      subst h9
      refine ⟨?_, gb1, gb2⟩
      rw [hv]
      simp [Array.getElem?_setIfInBounds, hlt]
      rfl⟩ (hR.2.2 b (by omega)) (fun z hz => by
      obtain ⟨w, -, hw⟩ := List.mem_map.mp hz
      rw [← hw])
  obtain ⟨t, a1, b1⟩ := W.exact (k _ _ ls g1 g2 hl) ((T.setVm vm').setCell b (arrV (Z.2.2.2.2.2.2.2.2.2.2.1.1 101) (μ.1.2.2.1 b).toNat (fun j => vI (va_cpy (fun j : Nat => μ.2.1 a j) (fun j : Nat => μ.2.1 b j) (Int32.ofInt sp).toNatClampNeg (Int32.ofInt tp).toNatClampNeg (Int32.ofInt n).toNatClampNeg j)))) (by rw [← hT]; rfl) X'
  exact ⟨t, step t a1, b1⟩
theorem r_copyQ (C : CX Z y cc ret lv nl) {a b idx : Nat} {sp tp n : Int} (h : cpQ μ a sp b tp n = some μ1) (q1 : Cond.methodLink y.cls idx arraycopyName ∈ lw_all) (q2 : Cond.native arraycopyName ∈ lw_all) (q3 : Cond.static arraycopyName ∈ lw_all) (q4 : Cond.initialized "java/lang/System" ∈ lw_all) (hlv : 1 ≤ lv) (hst : (st.map fun v => v.category).sum ≤ 8) (d : decode cc pc = .ok (.invokestatic idx, 3))
    (k : WL Z Q μ1 (pc + 3) L st) : WL Z Q μ pc L (vI n :: vI tp :: vO b :: vI sp :: vO a :: st) := by
  intro H locs ls hR hS hl T hT X
  obtain ⟨⟨ta, tb, hsp, htp, hn, hA, hB, hall⟩, e⟩ := ib_ h
  subst e
  obtain ⟨ga, ga1, ga2⟩ := (hR.2.1 a).2 106 (by decide) (by decide) ta
  obtain ⟨gb, gb1, gb2⟩ := (hR.2.1 b).2 106 (by decide) (by decide) tb
  obtain ⟨-, k0, hk0, cm0, hkk0⟩ := (C.kt.1.2 5 _ rfl).1 (μ.1.2.2.1 a).toNat (aV μ 106 a)
  obtain ⟨-, k1, hk1, cm1, hkk1⟩ := (C.kt.1.2 5 _ rfl).1 (μ.1.2.2.1 b).toNat (aV μ 106 b)
  have hf := C.fr
  have c1 := z_clamp sp
  have c2 := z_clamp tp
  have c3 := z_clamp n
  obtain ⟨vm', X', step⟩ := X.arraycopy C.ex C.own (C.hts _ q1) (C.hts _ q2) (C.hts _ q3) (C.hts _ q4) (src := a) (dst := b) (cs := arrV (Z.2.2.2.2.2.2.2.2.2.2.1.1 106) (μ.1.2.2.1 a).toNat (aV μ 106 a)) (cd := arrV (Z.2.2.2.2.2.2.2.2.2.2.1.1 106) (μ.1.2.2.1 b).toNat (aV μ 106 b)) (srcPos := Int32.ofInt sp) (destPos := Int32.ofInt tp) (n := Int32.ofInt n) (by rw [hT]; exact ga) (by rw [hT]; exact gb)
    (fun _ h => by cases h) (fun _ h => by cases h) (fun h => by cases h) (fun h => by cases h) hk0 hk1 hkk0 hkk1 rfl (z_nn hsp) (z_nn htp) (z_nn hn)
    (by rw [arrV_size, z_tI hsp, z_tI hn]; omega) (by rw [arrV_size, z_tI htp, z_tI hn]; omega)
    (fun vm₁ hal i hi => by
      have e : (arrV (Z.2.2.2.2.2.2.2.2.2.2.1.1 106) (μ.1.2.2.1 a).toNat (aV μ 106 a)).slots.getD ((Int32.ofInt sp).toNatClampNeg + i) .null = va_rf (μ.1.2.2.2 a (((Int32.ofInt sp).toNatClampNeg + i : Nat) : Int)) := by
        rw [Array.getD_eq_getD_getElem?, arrV_read _ _ (by omega)]
        rfl
      rw [e]
      have h7 := List.all_eq_true.mp hall i (List.mem_range.mpr (by omega))
      rw [show ((((Int32.ofInt sp).toNatClampNeg + i : Nat) : Int)) = w32 sp + (i : Int) by omega]
      cases hy : μ.1.2.2.2 a (w32 sp + (i : Int)) with
      | none => exact ⟨rfl, trivial⟩
      | some v =>
        rw [hy] at h7
        obtain ⟨c, r, hc, hty, hca⟩ := isSg_cast h7
        obtain ⟨cellV, q1, q2, q3, -⟩ := (hR.2.1 v).1 c r hc hty
        obtain ⟨kA, comp, r1, r2, r3, -⟩ := (C.kt.1.2 5 _ rfl).2
        cases hk1.symm.trans r1
        cases hkk1.symm.trans r2
        have g3 := (C.kt.1.1 c r hc).2.1
        obtain ⟨kC, hkC, -⟩ := Vm.findClass_spec g3
        obtain ⟨kE, hkE, -⟩ := Vm.findClass_spec r3
        obtain ⟨kC', hkC', -⟩ := hal.2.2 _ _ hkC
        obtain ⟨kE', hkE', -⟩ := hal.2.2 _ _ hkE
        refine ⟨rfl, cellV, (show T.heap[v]? = some cellV by rw [hT]; exact q1), (fun q h => by rw [q3] at h; cases h), ⟨kC', by rw [q2]; exact hkC'⟩, ?_, ?_⟩
        · exact ⟨kE', hkE'⟩
        · show vm₁.assignable _ _ = true
          rw [hal.assignable, q2]
          exact vb_asgC (C.kt.2.1 _ hca) _ _ r3 g3)
    (g := F0 Z.2.2.2.2.2.1 pc ls (vI n :: vI tp :: vO b :: vI sp :: vO a :: st)) rfl (by show ls.size = _; rw [C.ml]; exact hl.1) (rest := st) rfl (by rw [C.by_]; exact d) (by omega) (by
      have : nativeFrameWords "java/lang/System" "arraycopy" 5 ≤ 30 := by decide +kernel
      show 2 * 0 + _ + _ ≤ _
      omega)
  have e1 : copied (arrV (Z.2.2.2.2.2.2.2.2.2.2.1.1 106) (μ.1.2.2.1 a).toNat (aV μ 106 a)) (arrV (Z.2.2.2.2.2.2.2.2.2.2.1.1 106) (μ.1.2.2.1 b).toNat (aV μ 106 b)) (Int32.ofInt sp) (Int32.ofInt tp) (Int32.ofInt n) = arrV (Z.2.2.2.2.2.2.2.2.2.2.1.1 106) (μ.1.2.2.1 b).toNat (fun j => va_rf (va_cpy (fun j : Nat => μ.1.2.2.2 a j) (fun j : Nat => μ.1.2.2.2 b j) (Int32.ofInt sp).toNatClampNeg (Int32.ofInt tp).toNatClampNeg (Int32.ofInt n).toNatClampNeg j)) :=
    va_copied (fun z : Option Nat => va_rf z) (Z.2.2.2.2.2.2.2.2.2.2.1.1 106) (Z.2.2.2.2.2.2.2.2.2.2.1.1 106) (fun j : Nat => μ.1.2.2.2 a j) (fun j : Nat => μ.1.2.2.2 b j) (by omega)
  rw [e1] at X' step
  have hv : aV (sR μ b (cpz (μ.1.2.2.2 a) (μ.1.2.2.2 b) (w32 sp) (w32 tp) (w32 n))) 106 b = fun j => va_rf (va_cpy (fun j : Nat => μ.1.2.2.2 a j) (fun j : Nat => μ.1.2.2.2 b j) (Int32.ofInt sp).toNatClampNeg (Int32.ofInt tp).toNatClampNeg (Int32.ofInt n).toNatClampNeg j) := by
    funext j
    show va_rf (up1 μ.1.2.2.2 b _ b j) = _
    rw [up1_s]
    unfold cpz va_cpy
    rw [c1, c2, c3]
    by_cases hj : (w32 tp).toNat ≤ j ∧ j < (w32 tp).toNat + (w32 n).toNat
    · rw [if_pos hj, if_pos (by omega)]
      rw [show w32 sp + ((j : Int) - w32 tp) = (((w32 sp).toNat + (j - (w32 tp).toNat) : Nat) : Int) by omega]
    · rw [if_neg hj, if_neg (by omega)]
  have hlt : b < H.size := (Array.getElem?_eq_some_iff.mp gb).1
  obtain ⟨g1, g2, g3, g4⟩ := store_okL (μ1 := sR μ b (cpz (μ.1.2.2.2 a) (μ.1.2.2.2 b) (w32 sp) (w32 tp) (w32 n))) (H1 := H.setIfInBounds b (arrV (Z.2.2.2.2.2.2.2.2.2.2.1.1 106) (μ.1.2.2.1 b).toNat (fun j => va_rf (va_cpy (fun j : Nat => μ.1.2.2.2 a j) (fun j : Nat => μ.1.2.2.2 b j) (Int32.ofInt sp).toNatClampNeg (Int32.ofInt tp).toNatClampNeg (Int32.ofInt n).toNatClampNeg j)))) (L1 := ((arrV (Z.2.2.2.2.2.2.2.2.2.2.1.1 106) (μ.1.2.2.1 a).toNat (aV μ 106 a)).stretch (Int32.ofInt sp).toNatClampNeg (Int32.ofInt n).toNatClampNeg).zipIdx.map fun q => (⟨b, (Int32.ofInt tp).toNatClampNeg + q.2⟩ : Loc)) hR hS gb (by simp [Array.getElem?_setIfInBounds, hlt]; rfl) (by rw [arrV_size, arrV_size]) (by simp) (fun q hq => by simp [Array.getElem?_setIfInBounds, Ne.symm hq]) ⟨rfl, rfl, rfl⟩ (fun q hq => ⟨up1_n _ _ hq, rfl, rfl⟩)
    ⟨fun c r hc hty => by
      have h9 : μ.1.2.1 b = c := hty
      have := zCl_lt hc
      omega, fun t' l1 l2 hty => by
      have h9 : μ.1.2.1 b = t' := hty
      rw [tb] at h9
      subst h9
      refine ⟨?_, gb1, gb2⟩
      rw [hv]
      simp [Array.getElem?_setIfInBounds, hlt]
      rfl⟩ (hR.2.2 b (by omega)) (fun z hz => by
      obtain ⟨w, -, hw⟩ := List.mem_map.mp hz
      rw [← hw])
  obtain ⟨t, a1, b1⟩ := W.exact (k _ _ ls g1 g2 hl) ((T.setVm vm').setCell b (arrV (Z.2.2.2.2.2.2.2.2.2.2.1.1 106) (μ.1.2.2.1 b).toNat (fun j => va_rf (va_cpy (fun j : Nat => μ.1.2.2.2 a j) (fun j : Nat => μ.1.2.2.2 b j) (Int32.ofInt sp).toNatClampNeg (Int32.ofInt tp).toNatClampNeg (Int32.ofInt n).toNatClampNeg j)))) (by rw [← hT]; rfl) X'
  exact ⟨t, step t a1, b1⟩
end CP

/-! THE WALK'S ROWS, one an opcode (printed by gen/rows.py) -/
set_option maxRecDepth 100000
theorem r_iconst {Z : Zt} {Q : State → Prop} {μ : Me} {pc : Nat} {L : List (Nat × Value)} {st : List Value} {y : MethodName} {cc : ByteArray} {ret : Option FieldType} {lv nl : Nat} (C : CX Z y cc ret lv nl) {n : Int} (d : decode cc pc = .ok (.iconst n, 1)) (k : WL Z Q μ (pc + 1) L (vI n :: st)) : WL Z Q μ pc L (st) := by
  intro H locs ls hR hS hl
  exact lv_iconst (v := Int32.ofInt n) C.ex C.by_ d rfl (k H locs ls hR hS hl)
theorem r_bipush {Z : Zt} {Q : State → Prop} {μ : Me} {pc : Nat} {L : List (Nat × Value)} {st : List Value} {y : MethodName} {cc : ByteArray} {ret : Option FieldType} {lv nl : Nat} (C : CX Z y cc ret lv nl) {n : Int} (d : decode cc pc = .ok (.bipush n, 2)) (hv : (Int8.ofInt n).toInt32 = Int32.ofInt n) (k : WL Z Q μ (pc + 2) L (vI n :: st)) : WL Z Q μ pc L (st) := by
  intro H locs ls hR hS hl
  exact lv_bipush C.ex C.by_ d hv (k H locs ls hR hS hl)
theorem r_sipush {Z : Zt} {Q : State → Prop} {μ : Me} {pc : Nat} {L : List (Nat × Value)} {st : List Value} {y : MethodName} {cc : ByteArray} {ret : Option FieldType} {lv nl : Nat} (C : CX Z y cc ret lv nl) {n : Int} (d : decode cc pc = .ok (.sipush n, 3)) (hv : (Int16.ofInt n).toInt32 = Int32.ofInt n) (k : WL Z Q μ (pc + 3) L (vI n :: st)) : WL Z Q μ pc L (st) := by
  intro H locs ls hR hS hl
  exact lv_sipush C.ex C.by_ d hv (k H locs ls hR hS hl)
theorem r_lconst {Z : Zt} {Q : State → Prop} {μ : Me} {pc : Nat} {L : List (Nat × Value)} {st : List Value} {y : MethodName} {cc : ByteArray} {ret : Option FieldType} {lv nl : Nat} (C : CX Z y cc ret lv nl) {n : Fin 2} {v : Int} (d : decode cc pc = .ok (.lconst n, 1)) (hv : Int64.ofNat (n : Nat) = Int64.ofInt v) (k : WL Z Q μ (pc + 1) L (vJ v :: st)) : WL Z Q μ pc L (st) := by
  intro H locs ls hR hS hl
  exact lv_lconst C.ex C.by_ d hv (k H locs ls hR hS hl)
theorem r_ldc2 {Z : Zt} {Q : State → Prop} {μ : Me} {pc : Nat} {L : List (Nat × Value)} {st : List Value} {y : MethodName} {cc : ByteArray} {ret : Option FieldType} {lv nl : Nat} (C : CX Z y cc ret lv nl) {index : Nat} {v : Int64} {n : Int} (q : (Jvm.Cond.constantLong y.cls index v) ∈ lw_all) (d : decode cc pc = .ok (.ldc2_w index, 3)) (hv : v = Int64.ofInt n) (k : WL Z Q μ (pc + 3) L (vJ n :: st)) : WL Z Q μ pc L (st) := by
  intro H locs ls hR hS hl
  subst hv
  exact lv_ldc2 C.ex C.by_ C.own (C.hts _ q) d (k H locs ls hR hS hl)
theorem r_iload_n {Z : Zt} {Q : State → Prop} {μ : Me} {pc : Nat} {L : List (Nat × Value)} {st : List Value} {y : MethodName} {cc : ByteArray} {ret : Option FieldType} {lv nl : Nat} (C : CX Z y cc ret lv nl) (k0 : Nat) {i : Nat} {x : Int} {k1 : Fin 4} (d : decode cc pc = .ok (.iload_n k1, 1)) (hi : (k1 : Nat) = i) (hL : L[k0]? = some (i, vI x)) (k : WL Z Q μ (pc + 1) L (vI x :: st)) : WL Z Q μ pc L (st) := by
  intro H locs ls hR hS hl
  exact lv_iload_n C.ex C.by_ d hi (lv_at hl k0 hL) (k H locs ls hR hS hl)
theorem r_iload {Z : Zt} {Q : State → Prop} {μ : Me} {pc : Nat} {L : List (Nat × Value)} {st : List Value} {y : MethodName} {cc : ByteArray} {ret : Option FieldType} {lv nl : Nat} (C : CX Z y cc ret lv nl) (k0 : Nat) {i : Nat} {x : Int} (d : decode cc pc = .ok (.iload i, 2)) (hL : L[k0]? = some (i, vI x)) (k : WL Z Q μ (pc + 2) L (vI x :: st)) : WL Z Q μ pc L (st) := by
  intro H locs ls hR hS hl
  exact lv_iload C.ex C.by_ d (lv_at hl k0 hL) (k H locs ls hR hS hl)
theorem r_istore_n {Z : Zt} {Q : State → Prop} {μ : Me} {pc : Nat} {L : List (Nat × Value)} {st : List Value} {y : MethodName} {cc : ByteArray} {ret : Option FieldType} {lv nl : Nat} (C : CX Z y cc ret lv nl) {i : Nat} {x : Int} {k1 : Fin 4} (L1 : List (Nat × Value)) (d : decode cc pc = .ok (.istore_n k1, 1)) (hi : (k1 : Nat) = i) (hn : i < nl) (hL : (i, vI x) :: L.filter (fun q => !(q.1 == i) && !(q.1 + 1 == i && q.2.category == 2)) = L1) (k : WL Z Q μ (pc + 1) L1 (st)) : WL Z Q μ pc L (vI x :: st) := by
  intro H locs ls hR hS hl
  exact lv_istore_n C.ex C.by_ d hi hl (C.nl_ ▸ hn) hL (fun ls hl => k H locs ls hR hS hl)
theorem r_istore {Z : Zt} {Q : State → Prop} {μ : Me} {pc : Nat} {L : List (Nat × Value)} {st : List Value} {y : MethodName} {cc : ByteArray} {ret : Option FieldType} {lv nl : Nat} (C : CX Z y cc ret lv nl) {i : Nat} {x : Int} (L1 : List (Nat × Value)) (d : decode cc pc = .ok (.istore i, 2)) (hn : i < nl) (hL : (i, vI x) :: L.filter (fun q => !(q.1 == i) && !(q.1 + 1 == i && q.2.category == 2)) = L1) (k : WL Z Q μ (pc + 2) L1 (st)) : WL Z Q μ pc L (vI x :: st) := by
  intro H locs ls hR hS hl
  exact lv_istore C.ex C.by_ d hl (C.nl_ ▸ hn) hL (fun ls hl => k H locs ls hR hS hl)
theorem r_lload_n {Z : Zt} {Q : State → Prop} {μ : Me} {pc : Nat} {L : List (Nat × Value)} {st : List Value} {y : MethodName} {cc : ByteArray} {ret : Option FieldType} {lv nl : Nat} (C : CX Z y cc ret lv nl) (k0 : Nat) {i : Nat} {x : Int} {k1 : Fin 4} (d : decode cc pc = .ok (.lload_n k1, 1)) (hi : (k1 : Nat) = i) (hL : L[k0]? = some (i, vJ x)) (k : WL Z Q μ (pc + 1) L (vJ x :: st)) : WL Z Q μ pc L (st) := by
  intro H locs ls hR hS hl
  exact lv_lload_n C.ex C.by_ d hi (lv_at hl k0 hL) (k H locs ls hR hS hl)
theorem r_lload {Z : Zt} {Q : State → Prop} {μ : Me} {pc : Nat} {L : List (Nat × Value)} {st : List Value} {y : MethodName} {cc : ByteArray} {ret : Option FieldType} {lv nl : Nat} (C : CX Z y cc ret lv nl) (k0 : Nat) {i : Nat} {x : Int} (d : decode cc pc = .ok (.lload i, 2)) (hL : L[k0]? = some (i, vJ x)) (k : WL Z Q μ (pc + 2) L (vJ x :: st)) : WL Z Q μ pc L (st) := by
  intro H locs ls hR hS hl
  exact lv_lload C.ex C.by_ d (lv_at hl k0 hL) (k H locs ls hR hS hl)
theorem r_lstore_n {Z : Zt} {Q : State → Prop} {μ : Me} {pc : Nat} {L : List (Nat × Value)} {st : List Value} {y : MethodName} {cc : ByteArray} {ret : Option FieldType} {lv nl : Nat} (C : CX Z y cc ret lv nl) {i : Nat} {x : Int} {k1 : Fin 4} (L1 : List (Nat × Value)) (d : decode cc pc = .ok (.lstore_n k1, 1)) (hi : (k1 : Nat) = i) (hn : i + 1 < nl) (hL : (i, vJ x) :: L.filter (fun q => !(q.1 == i) && (!(q.1 == i + 1) && !(q.1 + 1 == i && q.2.category == 2))) = L1) (k : WL Z Q μ (pc + 1) L1 (st)) : WL Z Q μ pc L (vJ x :: st) := by
  intro H locs ls hR hS hl
  exact lv_lstore_n C.ex C.by_ d hi hl (C.nl_ ▸ hn) hL (fun ls hl => k H locs ls hR hS hl)
theorem r_lstore {Z : Zt} {Q : State → Prop} {μ : Me} {pc : Nat} {L : List (Nat × Value)} {st : List Value} {y : MethodName} {cc : ByteArray} {ret : Option FieldType} {lv nl : Nat} (C : CX Z y cc ret lv nl) {i : Nat} {x : Int} (L1 : List (Nat × Value)) (d : decode cc pc = .ok (.lstore i, 2)) (hn : i + 1 < nl) (hL : (i, vJ x) :: L.filter (fun q => !(q.1 == i) && (!(q.1 == i + 1) && !(q.1 + 1 == i && q.2.category == 2))) = L1) (k : WL Z Q μ (pc + 2) L1 (st)) : WL Z Q μ pc L (vJ x :: st) := by
  intro H locs ls hR hS hl
  exact lv_lstore C.ex C.by_ d hl (C.nl_ ▸ hn) hL (fun ls hl => k H locs ls hR hS hl)
theorem r_aload_n {Z : Zt} {Q : State → Prop} {μ : Me} {pc : Nat} {L : List (Nat × Value)} {st : List Value} {y : MethodName} {cc : ByteArray} {ret : Option FieldType} {lv nl : Nat} (C : CX Z y cc ret lv nl) (k0 : Nat) {i : Nat} {x : Nat} {k1 : Fin 4} (d : decode cc pc = .ok (.aload_n k1, 1)) (hi : (k1 : Nat) = i) (hL : L[k0]? = some (i, vO x)) (k : WL Z Q μ (pc + 1) L (vO x :: st)) : WL Z Q μ pc L (st) := by
  intro H locs ls hR hS hl
  exact lv_aload_n C.ex C.by_ d hi (lv_at hl k0 hL) (k H locs ls hR hS hl)
theorem r_aload {Z : Zt} {Q : State → Prop} {μ : Me} {pc : Nat} {L : List (Nat × Value)} {st : List Value} {y : MethodName} {cc : ByteArray} {ret : Option FieldType} {lv nl : Nat} (C : CX Z y cc ret lv nl) (k0 : Nat) {i : Nat} {x : Nat} (d : decode cc pc = .ok (.aload i, 2)) (hL : L[k0]? = some (i, vO x)) (k : WL Z Q μ (pc + 2) L (vO x :: st)) : WL Z Q μ pc L (st) := by
  intro H locs ls hR hS hl
  exact lv_aload C.ex C.by_ d (lv_at hl k0 hL) (k H locs ls hR hS hl)
theorem r_astore_n {Z : Zt} {Q : State → Prop} {μ : Me} {pc : Nat} {L : List (Nat × Value)} {st : List Value} {y : MethodName} {cc : ByteArray} {ret : Option FieldType} {lv nl : Nat} (C : CX Z y cc ret lv nl) {i : Nat} {x : Nat} {k1 : Fin 4} (L1 : List (Nat × Value)) (d : decode cc pc = .ok (.astore_n k1, 1)) (hi : (k1 : Nat) = i) (hn : i < nl) (hL : (i, vO x) :: L.filter (fun q => !(q.1 == i) && !(q.1 + 1 == i && q.2.category == 2)) = L1) (k : WL Z Q μ (pc + 1) L1 (st)) : WL Z Q μ pc L (vO x :: st) := by
  intro H locs ls hR hS hl
  exact lv_astore_n C.ex C.by_ d hi hl (C.nl_ ▸ hn) hL (fun ls hl => k H locs ls hR hS hl)
theorem r_astore {Z : Zt} {Q : State → Prop} {μ : Me} {pc : Nat} {L : List (Nat × Value)} {st : List Value} {y : MethodName} {cc : ByteArray} {ret : Option FieldType} {lv nl : Nat} (C : CX Z y cc ret lv nl) {i : Nat} {x : Nat} (L1 : List (Nat × Value)) (d : decode cc pc = .ok (.astore i, 2)) (hn : i < nl) (hL : (i, vO x) :: L.filter (fun q => !(q.1 == i) && !(q.1 + 1 == i && q.2.category == 2)) = L1) (k : WL Z Q μ (pc + 2) L1 (st)) : WL Z Q μ pc L (vO x :: st) := by
  intro H locs ls hR hS hl
  exact lv_astore C.ex C.by_ d hl (C.nl_ ▸ hn) hL (fun ls hl => k H locs ls hR hS hl)
theorem r_iinc {Z : Zt} {Q : State → Prop} {μ : Me} {pc : Nat} {L : List (Nat × Value)} {st : List Value} {y : MethodName} {cc : ByteArray} {ret : Option FieldType} {lv nl : Nat} (C : CX Z y cc ret lv nl) (k0 : Nat) {i : Nat} {n x : Int} (L1 : List (Nat × Value)) (d : decode cc pc = .ok (.iinc i n, 3)) (hk : L[k0]? = some (i, vI x)) (hn : i < nl) (hL : (i, vI (x + n)) :: L.filter (fun q => !(q.1 == i) && !(q.1 + 1 == i && q.2.category == 2)) = L1) (k : WL Z Q μ (pc + 3) L1 (st)) : WL Z Q μ pc L (st) := by
  intro H locs ls hR hS hl
  exact lv_iinc (v := Int32.ofInt (x + n)) C.ex C.by_ d hl hk (Int32.ofInt_add x n).symm (C.nl_ ▸ hn) hL (fun ls hl => k H locs ls hR hS hl)
theorem r_iadd {Z : Zt} {Q : State → Prop} {μ : Me} {pc : Nat} {L : List (Nat × Value)} {st : List Value} {y : MethodName} {cc : ByteArray} {ret : Option FieldType} {lv nl : Nat} (C : CX Z y cc ret lv nl) {a b : Int} (d : decode cc pc = .ok (.iadd, 1)) (k : WL Z Q μ (pc + 1) L (vI (a + b) :: st)) : WL Z Q μ pc L (vI b :: vI a :: st) := by
  intro H locs ls hR hS hl
  refine lv_iadd C.ex C.by_ d ?_
  rw [← Int32.ofInt_add]
  exact k H locs ls hR hS hl
theorem r_isub {Z : Zt} {Q : State → Prop} {μ : Me} {pc : Nat} {L : List (Nat × Value)} {st : List Value} {y : MethodName} {cc : ByteArray} {ret : Option FieldType} {lv nl : Nat} (C : CX Z y cc ret lv nl) {a b : Int} (d : decode cc pc = .ok (.isub, 1)) (k : WL Z Q μ (pc + 1) L (vI (a - b) :: st)) : WL Z Q μ pc L (vI b :: vI a :: st) := by
  intro H locs ls hR hS hl
  refine lv_isub C.ex C.by_ d ?_
  rw [← Int32.ofInt_sub]
  exact k H locs ls hR hS hl
theorem r_imul {Z : Zt} {Q : State → Prop} {μ : Me} {pc : Nat} {L : List (Nat × Value)} {st : List Value} {y : MethodName} {cc : ByteArray} {ret : Option FieldType} {lv nl : Nat} (C : CX Z y cc ret lv nl) {a b : Int} (d : decode cc pc = .ok (.imul, 1)) (k : WL Z Q μ (pc + 1) L (vI (a * b) :: st)) : WL Z Q μ pc L (vI b :: vI a :: st) := by
  intro H locs ls hR hS hl
  refine lv_imul C.ex C.by_ d ?_
  rw [← Int32.ofInt_mul]
  exact k H locs ls hR hS hl
theorem r_ladd {Z : Zt} {Q : State → Prop} {μ : Me} {pc : Nat} {L : List (Nat × Value)} {st : List Value} {y : MethodName} {cc : ByteArray} {ret : Option FieldType} {lv nl : Nat} (C : CX Z y cc ret lv nl) {a b : Int} (d : decode cc pc = .ok (.ladd, 1)) (k : WL Z Q μ (pc + 1) L (vJ (a + b) :: st)) : WL Z Q μ pc L (vJ b :: vJ a :: st) := by
  intro H locs ls hR hS hl
  refine lv_ladd C.ex C.by_ d ?_
  rw [← Int64.ofInt_add]
  exact k H locs ls hR hS hl
theorem r_lsub {Z : Zt} {Q : State → Prop} {μ : Me} {pc : Nat} {L : List (Nat × Value)} {st : List Value} {y : MethodName} {cc : ByteArray} {ret : Option FieldType} {lv nl : Nat} (C : CX Z y cc ret lv nl) {a b : Int} (d : decode cc pc = .ok (.lsub, 1)) (k : WL Z Q μ (pc + 1) L (vJ (a - b) :: st)) : WL Z Q μ pc L (vJ b :: vJ a :: st) := by
  intro H locs ls hR hS hl
  refine lv_lsub C.ex C.by_ d ?_
  rw [← Int64.ofInt_sub]
  exact k H locs ls hR hS hl
theorem r_lmul {Z : Zt} {Q : State → Prop} {μ : Me} {pc : Nat} {L : List (Nat × Value)} {st : List Value} {y : MethodName} {cc : ByteArray} {ret : Option FieldType} {lv nl : Nat} (C : CX Z y cc ret lv nl) {a b : Int} (d : decode cc pc = .ok (.lmul, 1)) (k : WL Z Q μ (pc + 1) L (vJ (a * b) :: st)) : WL Z Q μ pc L (vJ b :: vJ a :: st) := by
  intro H locs ls hR hS hl
  refine lv_lmul C.ex C.by_ d ?_
  rw [← Int64.ofInt_mul]
  exact k H locs ls hR hS hl
theorem r_ineg {Z : Zt} {Q : State → Prop} {μ : Me} {pc : Nat} {L : List (Nat × Value)} {st : List Value} {y : MethodName} {cc : ByteArray} {ret : Option FieldType} {lv nl : Nat} (C : CX Z y cc ret lv nl) {a : Int} (d : decode cc pc = .ok (.ineg, 1)) (k : WL Z Q μ (pc + 1) L (vI (-a) :: st)) : WL Z Q μ pc L (vI a :: st) := by
  intro H locs ls hR hS hl
  refine lv_ineg C.ex C.by_ d ?_
  rw [← Int32.ofInt_neg]
  exact k H locs ls hR hS hl
theorem r_lneg {Z : Zt} {Q : State → Prop} {μ : Me} {pc : Nat} {L : List (Nat × Value)} {st : List Value} {y : MethodName} {cc : ByteArray} {ret : Option FieldType} {lv nl : Nat} (C : CX Z y cc ret lv nl) {a : Int} (d : decode cc pc = .ok (.lneg, 1)) (k : WL Z Q μ (pc + 1) L (vJ (-a) :: st)) : WL Z Q μ pc L (vJ a :: st) := by
  intro H locs ls hR hS hl
  refine lv_lneg C.ex C.by_ d ?_
  rw [← Int64.ofInt_neg]
  exact k H locs ls hR hS hl
theorem r_idiv {Z : Zt} {Q : State → Prop} {μ : Me} {pc : Nat} {L : List (Nat × Value)} {st : List Value} {y : MethodName} {cc : ByteArray} {ret : Option FieldType} {lv nl : Nat} (C : CX Z y cc ret lv nl) {a b v : Int} (h : dvI a b = some v) (d : decode cc pc = .ok (.idiv, 1)) (k : WL Z Q μ (pc + 1) L (vI v :: st)) : WL Z Q μ pc L (vI b :: vI a :: st) := by
  intro H locs ls hR hS hl
  obtain ⟨h1, h2⟩ := dvI_ok h
  refine lv_idiv C.ex C.by_ d h1 ?_
  rw [h2]
  exact k H locs ls hR hS hl
theorem r_irem {Z : Zt} {Q : State → Prop} {μ : Me} {pc : Nat} {L : List (Nat × Value)} {st : List Value} {y : MethodName} {cc : ByteArray} {ret : Option FieldType} {lv nl : Nat} (C : CX Z y cc ret lv nl) {a b v : Int} (h : rmI a b = some v) (d : decode cc pc = .ok (.irem, 1)) (k : WL Z Q μ (pc + 1) L (vI v :: st)) : WL Z Q μ pc L (vI b :: vI a :: st) := by
  intro H locs ls hR hS hl
  obtain ⟨h1, h2⟩ := rmI_ok h
  refine lv_irem C.ex C.by_ d h1 ?_
  rw [h2]
  exact k H locs ls hR hS hl
theorem r_lrem {Z : Zt} {Q : State → Prop} {μ : Me} {pc : Nat} {L : List (Nat × Value)} {st : List Value} {y : MethodName} {cc : ByteArray} {ret : Option FieldType} {lv nl : Nat} (C : CX Z y cc ret lv nl) {a b v : Int} (h : rmJ a b = some v) (d : decode cc pc = .ok (.lrem, 1)) (k : WL Z Q μ (pc + 1) L (vJ v :: st)) : WL Z Q μ pc L (vJ b :: vJ a :: st) := by
  intro H locs ls hR hS hl
  obtain ⟨h1, h2⟩ := rmJ_ok h
  refine lv_lrem C.ex C.by_ d h1 ?_
  rw [h2]
  exact k H locs ls hR hS hl
theorem r_ldiv {Z : Zt} {Q : State → Prop} {μ : Me} {pc : Nat} {L : List (Nat × Value)} {st : List Value} {y : MethodName} {cc : ByteArray} {ret : Option FieldType} {lv nl : Nat} (C : CX Z y cc ret lv nl) {a b v : Int} (h : dvJ a b = some v) (d : decode cc pc = .ok (.ldiv, 1)) (k : WL Z Q μ (pc + 1) L (vJ v :: st)) : WL Z Q μ pc L (vJ b :: vJ a :: st) := by
  intro H locs ls hR hS hl
  obtain ⟨h1, h2⟩ := dvJ_ok h
  refine lv_ldiv C.ex C.by_ d h1 ?_
  rw [h2]
  exact k H locs ls hR hS hl
theorem r_i2l {Z : Zt} {Q : State → Prop} {μ : Me} {pc : Nat} {L : List (Nat × Value)} {st : List Value} {y : MethodName} {cc : ByteArray} {ret : Option FieldType} {lv nl : Nat} (C : CX Z y cc ret lv nl) {a : Int} (d : decode cc pc = .ok (.i2l, 1)) (k : WL Z Q μ (pc + 1) L (vJ (w32 a) :: st)) : WL Z Q μ pc L (vI a :: st) := by
  intro H locs ls hR hS hl
  exact lv_i2l C.ex C.by_ d (i2l_ok a) (k H locs ls hR hS hl)
theorem r_l2i {Z : Zt} {Q : State → Prop} {μ : Me} {pc : Nat} {L : List (Nat × Value)} {st : List Value} {y : MethodName} {cc : ByteArray} {ret : Option FieldType} {lv nl : Nat} (C : CX Z y cc ret lv nl) {a : Int} (d : decode cc pc = .ok (.l2i, 1)) (k : WL Z Q μ (pc + 1) L (vI a :: st)) : WL Z Q μ pc L (vJ a :: st) := by
  intro H locs ls hR hS hl
  exact lv_l2i C.ex C.by_ d Int64.toInt32_ofInt (k H locs ls hR hS hl)
theorem r_i2b {Z : Zt} {Q : State → Prop} {μ : Me} {pc : Nat} {L : List (Nat × Value)} {st : List Value} {y : MethodName} {cc : ByteArray} {ret : Option FieldType} {lv nl : Nat} (C : CX Z y cc ret lv nl) {a : Int} (d : decode cc pc = .ok (.i2b, 1)) (k : WL Z Q μ (pc + 1) L (vI (w8 a) :: st)) : WL Z Q μ pc L (vI a :: st) := by
  intro H locs ls hR hS hl
  exact lv_i2b C.ex C.by_ d (i2b_ok a) (k H locs ls hR hS hl)
theorem r_iand {Z : Zt} {Q : State → Prop} {μ : Me} {pc : Nat} {L : List (Nat × Value)} {st : List Value} {y : MethodName} {cc : ByteArray} {ret : Option FieldType} {lv nl : Nat} (C : CX Z y cc ret lv nl) {a b : Int} (d : decode cc pc = .ok (.iand, 1)) (k : WL Z Q μ (pc + 1) L (vI (anI a b) :: st)) : WL Z Q μ pc L (vI b :: vI a :: st) := by
  intro H locs ls hR hS hl
  refine lv_iand C.ex C.by_ d ?_
  rw [← anI_ok]
  exact k H locs ls hR hS hl
theorem r_ixor {Z : Zt} {Q : State → Prop} {μ : Me} {pc : Nat} {L : List (Nat × Value)} {st : List Value} {y : MethodName} {cc : ByteArray} {ret : Option FieldType} {lv nl : Nat} (C : CX Z y cc ret lv nl) {a b : Int} (d : decode cc pc = .ok (.ixor, 1)) (k : WL Z Q μ (pc + 1) L (vI (xoI a b) :: st)) : WL Z Q μ pc L (vI b :: vI a :: st) := by
  intro H locs ls hR hS hl
  refine lv_ixor C.ex C.by_ d ?_
  rw [← xoI_ok]
  exact k H locs ls hR hS hl
theorem r_ior {Z : Zt} {Q : State → Prop} {μ : Me} {pc : Nat} {L : List (Nat × Value)} {st : List Value} {y : MethodName} {cc : ByteArray} {ret : Option FieldType} {lv nl : Nat} (C : CX Z y cc ret lv nl) {a b : Int} (d : decode cc pc = .ok (.ior, 1)) (k : WL Z Q μ (pc + 1) L (vI (orI a b) :: st)) : WL Z Q μ pc L (vI b :: vI a :: st) := by
  intro H locs ls hR hS hl
  refine lv_ior C.ex C.by_ d ?_
  rw [← orI_ok]
  exact k H locs ls hR hS hl
theorem r_ishl {Z : Zt} {Q : State → Prop} {μ : Me} {pc : Nat} {L : List (Nat × Value)} {st : List Value} {y : MethodName} {cc : ByteArray} {ret : Option FieldType} {lv nl : Nat} (C : CX Z y cc ret lv nl) {a b : Int} (d : decode cc pc = .ok (.ishl, 1)) (k : WL Z Q μ (pc + 1) L (vI (slI a b) :: st)) : WL Z Q μ pc L (vI b :: vI a :: st) := by
  intro H locs ls hR hS hl
  refine lv_ishl C.ex C.by_ d ?_
  rw [← slI_ok]
  exact k H locs ls hR hS hl
theorem r_ishr {Z : Zt} {Q : State → Prop} {μ : Me} {pc : Nat} {L : List (Nat × Value)} {st : List Value} {y : MethodName} {cc : ByteArray} {ret : Option FieldType} {lv nl : Nat} (C : CX Z y cc ret lv nl) {a b : Int} (d : decode cc pc = .ok (.ishr, 1)) (k : WL Z Q μ (pc + 1) L (vI (srI a b) :: st)) : WL Z Q μ pc L (vI b :: vI a :: st) := by
  intro H locs ls hR hS hl
  refine lv_ishr C.ex C.by_ d ?_
  rw [← srI_ok]
  exact k H locs ls hR hS hl
theorem r_lxor {Z : Zt} {Q : State → Prop} {μ : Me} {pc : Nat} {L : List (Nat × Value)} {st : List Value} {y : MethodName} {cc : ByteArray} {ret : Option FieldType} {lv nl : Nat} (C : CX Z y cc ret lv nl) {a b : Int} (d : decode cc pc = .ok (.lxor, 1)) (k : WL Z Q μ (pc + 1) L (vJ (xoJ a b) :: st)) : WL Z Q μ pc L (vJ b :: vJ a :: st) := by
  intro H locs ls hR hS hl
  refine lv_lxor C.ex C.by_ d ?_
  rw [← xoJ_ok]
  exact k H locs ls hR hS hl
theorem r_ldc {Z : Zt} {Q : State → Prop} {μ : Me} {pc : Nat} {L : List (Nat × Value)} {st : List Value} {y : MethodName} {cc : ByteArray} {ret : Option FieldType} {lv nl : Nat} (C : CX Z y cc ret lv nl) {index : Nat} {v : Int32} {n : Int} (q : (Jvm.Cond.constant y.cls index v) ∈ lw_all) (d : decode cc pc = .ok (.ldc index, 2)) (hv : v = Int32.ofInt n) (k : WL Z Q μ (pc + 2) L (vI n :: st)) : WL Z Q μ pc L (st) := by
  intro H locs ls hR hS hl
  subst hv
  exact lv_ldc C.ex C.by_ C.own (C.hts _ q) d (k H locs ls hR hS hl)
theorem r_ldc_w {Z : Zt} {Q : State → Prop} {μ : Me} {pc : Nat} {L : List (Nat × Value)} {st : List Value} {y : MethodName} {cc : ByteArray} {ret : Option FieldType} {lv nl : Nat} (C : CX Z y cc ret lv nl) {index : Nat} {v : Int32} {n : Int} (q : (Jvm.Cond.constant y.cls index v) ∈ lw_all) (d : decode cc pc = .ok (.ldc_w index, 3)) (hv : v = Int32.ofInt n) (k : WL Z Q μ (pc + 3) L (vI n :: st)) : WL Z Q μ pc L (st) := by
  intro H locs ls hR hS hl
  subst hv
  exact lv_ldcw C.ex C.by_ C.own (C.hts _ q) d (k H locs ls hR hS hl)
theorem r_iushr {Z : Zt} {Q : State → Prop} {μ : Me} {pc : Nat} {L : List (Nat × Value)} {st : List Value} {y : MethodName} {cc : ByteArray} {ret : Option FieldType} {lv nl : Nat} (C : CX Z y cc ret lv nl) {a b : Int} (d : decode cc pc = .ok (.iushr, 1)) (k : WL Z Q μ (pc + 1) L (vI (urI a b) :: st)) : WL Z Q μ pc L (vI b :: vI a :: st) := by
  intro H locs ls hR hS hl
  exact lv_iushr C.ex C.by_ d (urI_ok a b).symm (k H locs ls hR hS hl)
theorem r_dup {Z : Zt} {Q : State → Prop} {μ : Me} {pc : Nat} {L : List (Nat × Value)} {st : List Value} {y : MethodName} {cc : ByteArray} {ret : Option FieldType} {lv nl : Nat} (C : CX Z y cc ret lv nl) {v : Value} (d : decode cc pc = .ok (.dup, 1)) (hv : v.category = 1) (k : WL Z Q μ (pc + 1) L (v :: v :: st)) : WL Z Q μ pc L (v :: st) := by
  intro H locs ls hR hS hl
  exact lv_dup C.ex C.by_ d hv (k H locs ls hR hS hl)
theorem r_pop {Z : Zt} {Q : State → Prop} {μ : Me} {pc : Nat} {L : List (Nat × Value)} {st : List Value} {y : MethodName} {cc : ByteArray} {ret : Option FieldType} {lv nl : Nat} (C : CX Z y cc ret lv nl) {v : Value} (d : decode cc pc = .ok (.pop, 1)) (hv : v.category = 1) (k : WL Z Q μ (pc + 1) L (st)) : WL Z Q μ pc L (v :: st) := by
  intro H locs ls hR hS hl
  exact lv_pop C.ex C.by_ d hv (k H locs ls hR hS hl)
theorem r_dup2 {Z : Zt} {Q : State → Prop} {μ : Me} {pc : Nat} {L : List (Nat × Value)} {st : List Value} {y : MethodName} {cc : ByteArray} {ret : Option FieldType} {lv nl : Nat} (C : CX Z y cc ret lv nl) {v u : Value} (d : decode cc pc = .ok (.dup2, 1)) (hv : v.category = 1) (hu : u.category = 1) (k : WL Z Q μ (pc + 1) L (v :: u :: v :: u :: st)) : WL Z Q μ pc L (v :: u :: st) := by
  intro H locs ls hR hS hl
  exact lv_dup2_11 C.ex C.by_ d hv hu (k H locs ls hR hS hl)
theorem r_dup_x1 {Z : Zt} {Q : State → Prop} {μ : Me} {pc : Nat} {L : List (Nat × Value)} {st : List Value} {y : MethodName} {cc : ByteArray} {ret : Option FieldType} {lv nl : Nat} (C : CX Z y cc ret lv nl) {v u : Value} (d : decode cc pc = .ok (.dup_x1, 1)) (hv : v.category = 1) (hu : u.category = 1) (k : WL Z Q μ (pc + 1) L (v :: u :: v :: st)) : WL Z Q μ pc L (v :: u :: st) := by
  intro H locs ls hR hS hl
  exact lv_dup_x1 C.ex C.by_ d hv hu (k H locs ls hR hS hl)
theorem r_icmp_lt {Z : Zt} {Q : State → Prop} {μ : Me} {pc : Nat} {L : List (Nat × Value)} {st : List Value} {y : MethodName} {cc : ByteArray} {ret : Option FieldType} {lv nl : Nat} (C : CX Z y cc ret lv nl) {a b off : Int} {tgt : Nat} (d : decode cc pc = .ok (.if_icmp .lt off, 3)) (ht : (pc : Int) + off = (tgt : Int)) (kt : w32 a < w32 b → WL Z Q μ tgt L st) (kf : ¬ w32 a < w32 b → WL Z Q μ (pc + 3) L st) : WL Z Q μ pc L (vI b :: vI a :: st) := by
  intro H locs ls hR hS hl
  exact lv_icmp_lt C.ex C.by_ d ht (fun h => kt (z_lt.mp h) H locs ls hR hS hl) (fun h => kf (fun q => h (z_lt.mpr q)) H locs ls hR hS hl)
theorem r_if_lt {Z : Zt} {Q : State → Prop} {μ : Me} {pc : Nat} {L : List (Nat × Value)} {st : List Value} {y : MethodName} {cc : ByteArray} {ret : Option FieldType} {lv nl : Nat} (C : CX Z y cc ret lv nl) {a off : Int} {tgt : Nat} (d : decode cc pc = .ok (.ifCond .lt off, 3)) (ht : (pc : Int) + off = (tgt : Int)) (kt : w32 a < 0 → WL Z Q μ tgt L st) (kf : ¬ w32 a < 0 → WL Z Q μ (pc + 3) L st) : WL Z Q μ pc L (vI a :: st) := by
  intro H locs ls hR hS hl
  exact lv_if_lt C.ex C.by_ d ht (fun h => kt (z_lt0.mp h) H locs ls hR hS hl) (fun h => kf (fun q => h (z_lt0.mpr q)) H locs ls hR hS hl)
theorem r_lcmp_lt {Z : Zt} {Q : State → Prop} {μ : Me} {pc : Nat} {L : List (Nat × Value)} {st : List Value} {y : MethodName} {cc : ByteArray} {ret : Option FieldType} {lv nl : Nat} (C : CX Z y cc ret lv nl) {a b off : Int} {tgt : Nat} (d0 : decode cc pc = .ok (.lcmp, 1)) (d : decode cc (pc + 1) = .ok (.ifCond .lt off, 3)) (ht : ((pc + 1 : Nat) : Int) + off = (tgt : Int)) (kt : w64 a < w64 b → WL Z Q μ tgt L st) (kf : ¬ w64 a < w64 b → WL Z Q μ (pc + 1 + 3) L st) : WL Z Q μ pc L (vJ b :: vJ a :: st) := by
  intro H locs ls hR hS hl
  refine W.lcmp C.ex C.by_ d0 ?_
  exact lv_if_lt C.ex C.by_ d ht (fun h => kt ((lc_lt a b).mp h) H locs ls hR hS hl) (fun h => kf (fun q => h ((lc_lt a b).mpr q)) H locs ls hR hS hl)
theorem r_icmp_ge {Z : Zt} {Q : State → Prop} {μ : Me} {pc : Nat} {L : List (Nat × Value)} {st : List Value} {y : MethodName} {cc : ByteArray} {ret : Option FieldType} {lv nl : Nat} (C : CX Z y cc ret lv nl) {a b off : Int} {tgt : Nat} (d : decode cc pc = .ok (.if_icmp .ge off, 3)) (ht : (pc : Int) + off = (tgt : Int)) (kt : w32 b ≤ w32 a → WL Z Q μ tgt L st) (kf : ¬ w32 b ≤ w32 a → WL Z Q μ (pc + 3) L st) : WL Z Q μ pc L (vI b :: vI a :: st) := by
  intro H locs ls hR hS hl
  exact lv_icmp_ge C.ex C.by_ d ht (fun h => kt (z_le.mp h) H locs ls hR hS hl) (fun h => kf (fun q => h (z_le.mpr q)) H locs ls hR hS hl)
theorem r_if_ge {Z : Zt} {Q : State → Prop} {μ : Me} {pc : Nat} {L : List (Nat × Value)} {st : List Value} {y : MethodName} {cc : ByteArray} {ret : Option FieldType} {lv nl : Nat} (C : CX Z y cc ret lv nl) {a off : Int} {tgt : Nat} (d : decode cc pc = .ok (.ifCond .ge off, 3)) (ht : (pc : Int) + off = (tgt : Int)) (kt : 0 ≤ w32 a → WL Z Q μ tgt L st) (kf : ¬ 0 ≤ w32 a → WL Z Q μ (pc + 3) L st) : WL Z Q μ pc L (vI a :: st) := by
  intro H locs ls hR hS hl
  exact lv_if_ge C.ex C.by_ d ht (fun h => kt (z_0le.mp h) H locs ls hR hS hl) (fun h => kf (fun q => h (z_0le.mpr q)) H locs ls hR hS hl)
theorem r_lcmp_ge {Z : Zt} {Q : State → Prop} {μ : Me} {pc : Nat} {L : List (Nat × Value)} {st : List Value} {y : MethodName} {cc : ByteArray} {ret : Option FieldType} {lv nl : Nat} (C : CX Z y cc ret lv nl) {a b off : Int} {tgt : Nat} (d0 : decode cc pc = .ok (.lcmp, 1)) (d : decode cc (pc + 1) = .ok (.ifCond .ge off, 3)) (ht : ((pc + 1 : Nat) : Int) + off = (tgt : Int)) (kt : w64 b ≤ w64 a → WL Z Q μ tgt L st) (kf : ¬ w64 b ≤ w64 a → WL Z Q μ (pc + 1 + 3) L st) : WL Z Q μ pc L (vJ b :: vJ a :: st) := by
  intro H locs ls hR hS hl
  refine W.lcmp C.ex C.by_ d0 ?_
  exact lv_if_ge C.ex C.by_ d ht (fun h => kt ((lc_ge a b).mp h) H locs ls hR hS hl) (fun h => kf (fun q => h ((lc_ge a b).mpr q)) H locs ls hR hS hl)
theorem r_icmp_gt {Z : Zt} {Q : State → Prop} {μ : Me} {pc : Nat} {L : List (Nat × Value)} {st : List Value} {y : MethodName} {cc : ByteArray} {ret : Option FieldType} {lv nl : Nat} (C : CX Z y cc ret lv nl) {a b off : Int} {tgt : Nat} (d : decode cc pc = .ok (.if_icmp .gt off, 3)) (ht : (pc : Int) + off = (tgt : Int)) (kt : w32 b < w32 a → WL Z Q μ tgt L st) (kf : ¬ w32 b < w32 a → WL Z Q μ (pc + 3) L st) : WL Z Q μ pc L (vI b :: vI a :: st) := by
  intro H locs ls hR hS hl
  exact lv_icmp_gt C.ex C.by_ d ht (fun h => kt (z_lt.mp h) H locs ls hR hS hl) (fun h => kf (fun q => h (z_lt.mpr q)) H locs ls hR hS hl)
theorem r_if_gt {Z : Zt} {Q : State → Prop} {μ : Me} {pc : Nat} {L : List (Nat × Value)} {st : List Value} {y : MethodName} {cc : ByteArray} {ret : Option FieldType} {lv nl : Nat} (C : CX Z y cc ret lv nl) {a off : Int} {tgt : Nat} (d : decode cc pc = .ok (.ifCond .gt off, 3)) (ht : (pc : Int) + off = (tgt : Int)) (kt : 0 < w32 a → WL Z Q μ tgt L st) (kf : ¬ 0 < w32 a → WL Z Q μ (pc + 3) L st) : WL Z Q μ pc L (vI a :: st) := by
  intro H locs ls hR hS hl
  exact lv_if_gt C.ex C.by_ d ht (fun h => kt (z_0lt.mp h) H locs ls hR hS hl) (fun h => kf (fun q => h (z_0lt.mpr q)) H locs ls hR hS hl)
theorem r_lcmp_gt {Z : Zt} {Q : State → Prop} {μ : Me} {pc : Nat} {L : List (Nat × Value)} {st : List Value} {y : MethodName} {cc : ByteArray} {ret : Option FieldType} {lv nl : Nat} (C : CX Z y cc ret lv nl) {a b off : Int} {tgt : Nat} (d0 : decode cc pc = .ok (.lcmp, 1)) (d : decode cc (pc + 1) = .ok (.ifCond .gt off, 3)) (ht : ((pc + 1 : Nat) : Int) + off = (tgt : Int)) (kt : w64 b < w64 a → WL Z Q μ tgt L st) (kf : ¬ w64 b < w64 a → WL Z Q μ (pc + 1 + 3) L st) : WL Z Q μ pc L (vJ b :: vJ a :: st) := by
  intro H locs ls hR hS hl
  refine W.lcmp C.ex C.by_ d0 ?_
  exact lv_if_gt C.ex C.by_ d ht (fun h => kt ((lc_gt a b).mp h) H locs ls hR hS hl) (fun h => kf (fun q => h ((lc_gt a b).mpr q)) H locs ls hR hS hl)
theorem r_icmp_le {Z : Zt} {Q : State → Prop} {μ : Me} {pc : Nat} {L : List (Nat × Value)} {st : List Value} {y : MethodName} {cc : ByteArray} {ret : Option FieldType} {lv nl : Nat} (C : CX Z y cc ret lv nl) {a b off : Int} {tgt : Nat} (d : decode cc pc = .ok (.if_icmp .le off, 3)) (ht : (pc : Int) + off = (tgt : Int)) (kt : w32 a ≤ w32 b → WL Z Q μ tgt L st) (kf : ¬ w32 a ≤ w32 b → WL Z Q μ (pc + 3) L st) : WL Z Q μ pc L (vI b :: vI a :: st) := by
  intro H locs ls hR hS hl
  exact lv_icmp_le C.ex C.by_ d ht (fun h => kt (z_le.mp h) H locs ls hR hS hl) (fun h => kf (fun q => h (z_le.mpr q)) H locs ls hR hS hl)
theorem r_if_le {Z : Zt} {Q : State → Prop} {μ : Me} {pc : Nat} {L : List (Nat × Value)} {st : List Value} {y : MethodName} {cc : ByteArray} {ret : Option FieldType} {lv nl : Nat} (C : CX Z y cc ret lv nl) {a off : Int} {tgt : Nat} (d : decode cc pc = .ok (.ifCond .le off, 3)) (ht : (pc : Int) + off = (tgt : Int)) (kt : w32 a ≤ 0 → WL Z Q μ tgt L st) (kf : ¬ w32 a ≤ 0 → WL Z Q μ (pc + 3) L st) : WL Z Q μ pc L (vI a :: st) := by
  intro H locs ls hR hS hl
  exact lv_if_le C.ex C.by_ d ht (fun h => kt (z_le0.mp h) H locs ls hR hS hl) (fun h => kf (fun q => h (z_le0.mpr q)) H locs ls hR hS hl)
theorem r_lcmp_le {Z : Zt} {Q : State → Prop} {μ : Me} {pc : Nat} {L : List (Nat × Value)} {st : List Value} {y : MethodName} {cc : ByteArray} {ret : Option FieldType} {lv nl : Nat} (C : CX Z y cc ret lv nl) {a b off : Int} {tgt : Nat} (d0 : decode cc pc = .ok (.lcmp, 1)) (d : decode cc (pc + 1) = .ok (.ifCond .le off, 3)) (ht : ((pc + 1 : Nat) : Int) + off = (tgt : Int)) (kt : w64 a ≤ w64 b → WL Z Q μ tgt L st) (kf : ¬ w64 a ≤ w64 b → WL Z Q μ (pc + 1 + 3) L st) : WL Z Q μ pc L (vJ b :: vJ a :: st) := by
  intro H locs ls hR hS hl
  refine W.lcmp C.ex C.by_ d0 ?_
  exact lv_if_le C.ex C.by_ d ht (fun h => kt ((lc_le a b).mp h) H locs ls hR hS hl) (fun h => kf (fun q => h ((lc_le a b).mpr q)) H locs ls hR hS hl)
theorem r_icmp_eq {Z : Zt} {Q : State → Prop} {μ : Me} {pc : Nat} {L : List (Nat × Value)} {st : List Value} {y : MethodName} {cc : ByteArray} {ret : Option FieldType} {lv nl : Nat} (C : CX Z y cc ret lv nl) {a b off : Int} {tgt : Nat} (d : decode cc pc = .ok (.if_icmp .eq off, 3)) (ht : (pc : Int) + off = (tgt : Int)) (kt : w32 a = w32 b → WL Z Q μ tgt L st) (kf : ¬ w32 a = w32 b → WL Z Q μ (pc + 3) L st) : WL Z Q μ pc L (vI b :: vI a :: st) := by
  intro H locs ls hR hS hl
  exact lv_icmp_eq C.ex C.by_ d ht (fun h => kt (z_inj.mp h) H locs ls hR hS hl) (fun h => kf (fun q => h (z_inj.mpr q)) H locs ls hR hS hl)
theorem r_if_eq {Z : Zt} {Q : State → Prop} {μ : Me} {pc : Nat} {L : List (Nat × Value)} {st : List Value} {y : MethodName} {cc : ByteArray} {ret : Option FieldType} {lv nl : Nat} (C : CX Z y cc ret lv nl) {a off : Int} {tgt : Nat} (d : decode cc pc = .ok (.ifCond .eq off, 3)) (ht : (pc : Int) + off = (tgt : Int)) (kt : w32 a = 0 → WL Z Q μ tgt L st) (kf : ¬ w32 a = 0 → WL Z Q μ (pc + 3) L st) : WL Z Q μ pc L (vI a :: st) := by
  intro H locs ls hR hS hl
  exact lv_if_eq C.ex C.by_ d ht (fun h => kt (z_eq0.mp h) H locs ls hR hS hl) (fun h => kf (fun q => h (z_eq0.mpr q)) H locs ls hR hS hl)
theorem r_lcmp_eq {Z : Zt} {Q : State → Prop} {μ : Me} {pc : Nat} {L : List (Nat × Value)} {st : List Value} {y : MethodName} {cc : ByteArray} {ret : Option FieldType} {lv nl : Nat} (C : CX Z y cc ret lv nl) {a b off : Int} {tgt : Nat} (d0 : decode cc pc = .ok (.lcmp, 1)) (d : decode cc (pc + 1) = .ok (.ifCond .eq off, 3)) (ht : ((pc + 1 : Nat) : Int) + off = (tgt : Int)) (kt : w64 a = w64 b → WL Z Q μ tgt L st) (kf : ¬ w64 a = w64 b → WL Z Q μ (pc + 1 + 3) L st) : WL Z Q μ pc L (vJ b :: vJ a :: st) := by
  intro H locs ls hR hS hl
  refine W.lcmp C.ex C.by_ d0 ?_
  exact lv_if_eq C.ex C.by_ d ht (fun h => kt ((lc_eq a b).mp h) H locs ls hR hS hl) (fun h => kf (fun q => h ((lc_eq a b).mpr q)) H locs ls hR hS hl)
theorem r_icmp_ne {Z : Zt} {Q : State → Prop} {μ : Me} {pc : Nat} {L : List (Nat × Value)} {st : List Value} {y : MethodName} {cc : ByteArray} {ret : Option FieldType} {lv nl : Nat} (C : CX Z y cc ret lv nl) {a b off : Int} {tgt : Nat} (d : decode cc pc = .ok (.if_icmp .ne off, 3)) (ht : (pc : Int) + off = (tgt : Int)) (kt : ¬ w32 a = w32 b → WL Z Q μ tgt L st) (kf : w32 a = w32 b → WL Z Q μ (pc + 3) L st) : WL Z Q μ pc L (vI b :: vI a :: st) := by
  intro H locs ls hR hS hl
  exact lv_icmp_ne C.ex C.by_ d ht (fun h => kt (fun q => h (z_inj.mpr q)) H locs ls hR hS hl) (fun h => kf (z_inj.mp h) H locs ls hR hS hl)
theorem r_if_ne {Z : Zt} {Q : State → Prop} {μ : Me} {pc : Nat} {L : List (Nat × Value)} {st : List Value} {y : MethodName} {cc : ByteArray} {ret : Option FieldType} {lv nl : Nat} (C : CX Z y cc ret lv nl) {a off : Int} {tgt : Nat} (d : decode cc pc = .ok (.ifCond .ne off, 3)) (ht : (pc : Int) + off = (tgt : Int)) (kt : ¬ w32 a = 0 → WL Z Q μ tgt L st) (kf : w32 a = 0 → WL Z Q μ (pc + 3) L st) : WL Z Q μ pc L (vI a :: st) := by
  intro H locs ls hR hS hl
  exact lv_if_ne C.ex C.by_ d ht (fun h => kt (fun q => h (z_eq0.mpr q)) H locs ls hR hS hl) (fun h => kf (z_eq0.mp h) H locs ls hR hS hl)
theorem r_lcmp_ne {Z : Zt} {Q : State → Prop} {μ : Me} {pc : Nat} {L : List (Nat × Value)} {st : List Value} {y : MethodName} {cc : ByteArray} {ret : Option FieldType} {lv nl : Nat} (C : CX Z y cc ret lv nl) {a b off : Int} {tgt : Nat} (d0 : decode cc pc = .ok (.lcmp, 1)) (d : decode cc (pc + 1) = .ok (.ifCond .ne off, 3)) (ht : ((pc + 1 : Nat) : Int) + off = (tgt : Int)) (kt : ¬ w64 a = w64 b → WL Z Q μ tgt L st) (kf : w64 a = w64 b → WL Z Q μ (pc + 1 + 3) L st) : WL Z Q μ pc L (vJ b :: vJ a :: st) := by
  intro H locs ls hR hS hl
  refine W.lcmp C.ex C.by_ d0 ?_
  exact lv_if_ne C.ex C.by_ d ht (fun h => kt ((lc_ne a b).mp h) H locs ls hR hS hl) (fun h => kf ((lc_eq a b).mp h) H locs ls hR hS hl)
theorem r_goto {Z : Zt} {Q : State → Prop} {μ : Me} {pc : Nat} {L : List (Nat × Value)} {st : List Value} {y : MethodName} {cc : ByteArray} {ret : Option FieldType} {lv nl : Nat} (C : CX Z y cc ret lv nl) {off : Int} {tgt : Nat} (d : decode cc pc = .ok (.goto off, 3)) (ht : (pc : Int) + off = (tgt : Int)) (k : WL Z Q μ tgt L st) : WL Z Q μ pc L st := by
  intro H locs ls hR hS hl
  exact lv_goto C.ex C.by_ d ht (k H locs ls hR hS hl)
theorem r_sub {Z : Zt} {Q : State → Prop} {μ : Me} {pc : Nat} {L L1 : List (Nat × Value)} {st : List Value} (ks : List Nat) (hL : lv_pick L ks = L1) (k : WL Z Q μ pc L1 st) : WL Z Q μ pc L st := fun H locs ls hR hS hl => k H locs ls hR hS (lv_sub hl ks hL)
theorem r_getI {Z : Zt} {Q : State → Prop} {μ : Me} {pc : Nat} {L : List (Nat × Value)} {st : List Value} {y : MethodName} {cc : ByteArray} {ret : Option FieldType} {lv nl : Nat} (C : CX Z y cc ret lv nl) {c idx a : Nat} {r : vw_C} {v : Int} (hc : zCl[c]? = some r) (k0 : Nat) (hk : k0 < r.2.2) (ht : zkI (zty c k0) = true) (h : gI μ c a k0 = some v) (q : (Cond.fieldLink y.cls idx (r.2.1 k0).1 (r.2.1 k0).2.1 (r.2.1 k0).2.2.1) ∈ lw_all) (d : decode cc pc = .ok (.getfield idx, 3)) (k : WL Z Q μ (pc + 3) L (vI v :: st)) : WL Z Q μ pc L (vO a :: st) := by
  intro H locs ls hR hS hl
  obtain ⟨h0, h1⟩ := gI_ok ht h
  exact getC C hR hc k0 hk h0 h1 (C.hts _ q) d (k H locs ls hR hS hl)
theorem r_getIN {Z : Zt} {Q : State → Prop} {μ : Me} {pc : Nat} {L : List (Nat × Value)} {st : List Value} {y : MethodName} {cc : ByteArray} {ret : Option FieldType} {lv nl : Nat} (C : CX Z y cc ret lv nl) {c idx a : Nat} {r : vw_C} {v : Int} (hc : zCl[c]? = some r) (k0 : Nat) (hk : k0 < r.2.2) (ht : zkI (zty c k0) = true) (h : gI μ c a k0 = some v) {host : String} (q : (Cond.fieldLinkNest y.cls idx (r.2.1 k0).1 (r.2.1 k0).2.1 (r.2.1 k0).2.2.1 host) ∈ lw_nst) (d : decode cc pc = .ok (.getfield idx, 3)) (k : WL Z Q μ (pc + 3) L (vI v :: st)) : WL Z Q μ pc L (vO a :: st) := by
  intro H locs ls hR hS hl
  obtain ⟨h0, h1⟩ := gI_ok ht h
  exact getCN C hR hc k0 hk h0 h1 (C.nst q) d (k H locs ls hR hS hl)
theorem r_getJ {Z : Zt} {Q : State → Prop} {μ : Me} {pc : Nat} {L : List (Nat × Value)} {st : List Value} {y : MethodName} {cc : ByteArray} {ret : Option FieldType} {lv nl : Nat} (C : CX Z y cc ret lv nl) {c idx a : Nat} {r : vw_C} {v : Int} (hc : zCl[c]? = some r) (k0 : Nat) (hk : k0 < r.2.2) (ht : zkJ (zty c k0) = true) (h : gJ μ c a k0 = some v) (q : (Cond.fieldLink y.cls idx (r.2.1 k0).1 (r.2.1 k0).2.1 (r.2.1 k0).2.2.1) ∈ lw_all) (d : decode cc pc = .ok (.getfield idx, 3)) (k : WL Z Q μ (pc + 3) L (vJ v :: st)) : WL Z Q μ pc L (vO a :: st) := by
  intro H locs ls hR hS hl
  obtain ⟨h0, h1⟩ := gJ_ok ht h
  exact getC C hR hc k0 hk h0 h1 (C.hts _ q) d (k H locs ls hR hS hl)
theorem r_getJN {Z : Zt} {Q : State → Prop} {μ : Me} {pc : Nat} {L : List (Nat × Value)} {st : List Value} {y : MethodName} {cc : ByteArray} {ret : Option FieldType} {lv nl : Nat} (C : CX Z y cc ret lv nl) {c idx a : Nat} {r : vw_C} {v : Int} (hc : zCl[c]? = some r) (k0 : Nat) (hk : k0 < r.2.2) (ht : zkJ (zty c k0) = true) (h : gJ μ c a k0 = some v) {host : String} (q : (Cond.fieldLinkNest y.cls idx (r.2.1 k0).1 (r.2.1 k0).2.1 (r.2.1 k0).2.2.1 host) ∈ lw_nst) (d : decode cc pc = .ok (.getfield idx, 3)) (k : WL Z Q μ (pc + 3) L (vJ v :: st)) : WL Z Q μ pc L (vO a :: st) := by
  intro H locs ls hR hS hl
  obtain ⟨h0, h1⟩ := gJ_ok ht h
  exact getCN C hR hc k0 hk h0 h1 (C.nst q) d (k H locs ls hR hS hl)
theorem r_getR {Z : Zt} {Q : State → Prop} {μ : Me} {pc : Nat} {L : List (Nat × Value)} {st : List Value} {y : MethodName} {cc : ByteArray} {ret : Option FieldType} {lv nl : Nat} (C : CX Z y cc ret lv nl) {c idx a : Nat} {r : vw_C} {v : Nat} (hc : zCl[c]? = some r) (k0 : Nat) (hk : k0 < r.2.2) (ht : zkR (zty c k0) = true) (h : gR μ c a k0 = some v) (q : (Cond.fieldLink y.cls idx (r.2.1 k0).1 (r.2.1 k0).2.1 (r.2.1 k0).2.2.1) ∈ lw_all) (d : decode cc pc = .ok (.getfield idx, 3)) (k : WL Z Q μ (pc + 3) L (vO v :: st)) : WL Z Q μ pc L (vO a :: st) := by
  intro H locs ls hR hS hl
  obtain ⟨h0, h1⟩ := gR_ok ht h
  exact getC C hR hc k0 hk h0 h1 (C.hts _ q) d (k H locs ls hR hS hl)
theorem r_getRN {Z : Zt} {Q : State → Prop} {μ : Me} {pc : Nat} {L : List (Nat × Value)} {st : List Value} {y : MethodName} {cc : ByteArray} {ret : Option FieldType} {lv nl : Nat} (C : CX Z y cc ret lv nl) {c idx a : Nat} {r : vw_C} {v : Nat} (hc : zCl[c]? = some r) (k0 : Nat) (hk : k0 < r.2.2) (ht : zkR (zty c k0) = true) (h : gR μ c a k0 = some v) {host : String} (q : (Cond.fieldLinkNest y.cls idx (r.2.1 k0).1 (r.2.1 k0).2.1 (r.2.1 k0).2.2.1 host) ∈ lw_nst) (d : decode cc pc = .ok (.getfield idx, 3)) (k : WL Z Q μ (pc + 3) L (vO v :: st)) : WL Z Q μ pc L (vO a :: st) := by
  intro H locs ls hR hS hl
  obtain ⟨h0, h1⟩ := gR_ok ht h
  exact getCN C hR hc k0 hk h0 h1 (C.nst q) d (k H locs ls hR hS hl)
theorem r_iald {Z : Zt} {Q : State → Prop} {μ : Me} {pc : Nat} {L : List (Nat × Value)} {st : List Value} {y : MethodName} {cc : ByteArray} {ret : Option FieldType} {lv nl : Nat} (C : CX Z y cc ret lv nl) {a : Nat} {j v : Int} (h : aI μ 101 a j = some v) (d : decode cc pc = .ok (.iaload, 1)) (k : WL Z Q μ (pc + 1) L (vI v :: st)) : WL Z Q μ pc L (vI j :: vO a :: st) := by
  intro H locs ls hR hS hl
  obtain ⟨cell, h0, h1, h2, h3, h4⟩ := aldI_ok C hR h
  exact W.iald C.ex C.by_ h0 h1 h2 h3 h4 rfl rfl d (k H locs ls hR hS hl)
theorem r_bald {Z : Zt} {Q : State → Prop} {μ : Me} {pc : Nat} {L : List (Nat × Value)} {st : List Value} {y : MethodName} {cc : ByteArray} {ret : Option FieldType} {lv nl : Nat} (C : CX Z y cc ret lv nl) {a : Nat} {j v : Int} (h : aI μ 102 a j = some v) (d : decode cc pc = .ok (.baload, 1)) (k : WL Z Q μ (pc + 1) L (vI v :: st)) : WL Z Q μ pc L (vI j :: vO a :: st) := by
  intro H locs ls hR hS hl
  obtain ⟨cell, h0, h1, h2, h3, h4⟩ := aldB_ok C hR h
  exact W.bald C.ex C.by_ h0 h1 h2 h3 h4 rfl rfl d (k H locs ls hR hS hl)
theorem r_lald {Z : Zt} {Q : State → Prop} {μ : Me} {pc : Nat} {L : List (Nat × Value)} {st : List Value} {y : MethodName} {cc : ByteArray} {ret : Option FieldType} {lv nl : Nat} (C : CX Z y cc ret lv nl) {a : Nat} {j v : Int} (h : aJ μ 103 a j = some v) (d : decode cc pc = .ok (.laload, 1)) (k : WL Z Q μ (pc + 1) L (vJ v :: st)) : WL Z Q μ pc L (vI j :: vO a :: st) := by
  intro H locs ls hR hS hl
  obtain ⟨cell, h0, h1, h2, h3, h4⟩ := aldJ_ok C hR h
  exact W.lald C.ex C.by_ h0 h1 h2 h3 h4 rfl rfl d (k H locs ls hR hS hl)
theorem r_aald {Z : Zt} {Q : State → Prop} {μ : Me} {pc : Nat} {L : List (Nat × Value)} {st : List Value} {y : MethodName} {cc : ByteArray} {ret : Option FieldType} {lv nl : Nat} (C : CX Z y cc ret lv nl) {t a v : Nat} {j : Int} {ty : FieldType} {kt : Nat} (h : aR μ t a j = some v) (ht : (zTy Z.2.2.2.2.2.2.2.2.2.2.1)[kt]? = some (Z.2.2.2.2.2.2.2.2.2.2.1.1 t, ty)) (hr : ty.isReference = true) (h4 : 104 ≤ t ∧ t ≤ 107) (d : decode cc pc = .ok (.aaload, 1)) (k : WL Z Q μ (pc + 1) L (vO v :: st)) : WL Z Q μ pc L (vI j :: vO a :: st) := by
  intro H locs ls hR hS hl
  obtain ⟨cell, h0, h1, h2, h3, h4⟩ := aldR_ok C hR h4 ht h
  exact W.aald C.ex C.by_ h0 h1 hr h2 h3 h4 rfl rfl d (k H locs ls hR hS hl)
theorem r_alen {Z : Zt} {Q : State → Prop} {μ : Me} {pc : Nat} {L : List (Nat × Value)} {st : List Value} {y : MethodName} {cc : ByteArray} {ret : Option FieldType} {lv nl : Nat} (C : CX Z y cc ret lv nl) {a : Nat} {v : Int} (h : aL μ a = some v) (d : decode cc pc = .ok (.arraylength, 1)) (k : WL Z Q μ (pc + 1) L (vI v :: st)) : WL Z Q μ pc L (vO a :: st) := by
  intro H locs ls hR hS hl
  obtain ⟨cell, ty, h0, h1, h2⟩ := alen_ok C hR h
  exact W.alen C.ex C.by_ h0 h1 h2 rfl rfl d (k H locs ls hR hS hl)
theorem r_putI {Z : Zt} {Q : State → Prop} {μ : Me} {pc : Nat} {L : List (Nat × Value)} {st : List Value} {y : MethodName} {cc : ByteArray} {ret : Option FieldType} {lv nl : Nat} (C : CX Z y cc ret lv nl) {c idx a : Nat} {r : vw_C} {v : Int} {μ1 : Me} (hc : zCl[c]? = some r) (k0 : Nat) (hk : k0 < r.2.2) (ht : zkI (zty c k0) = true) (hn : narrow (zty c k0) (vI v) = vI v ∧ fits (zty c k0) (vI v) = true) (hf : (r.2.1 k0).2.2.2 = false) (h : pI μ c a k0 v = some μ1) (q : (Cond.fieldLink y.cls idx (r.2.1 k0).1 (r.2.1 k0).2.1 (r.2.1 k0).2.2.1) ∈ lw_all) (d : decode cc pc = .ok (.putfield idx, 3)) (k : WL Z Q μ1 (pc + 3) L (st)) : WL Z Q μ pc L (vI v :: vO a :: st) := by
  intro H locs ls hR hS hl
  exact putC C hR hS hc k0 hk (pI_ok ht h) hn hf (C.hts _ q) d (fun H1 locs1 hR1 hS1 => k H1 locs1 ls hR1 hS1 hl)
theorem r_putIN {Z : Zt} {Q : State → Prop} {μ : Me} {pc : Nat} {L : List (Nat × Value)} {st : List Value} {y : MethodName} {cc : ByteArray} {ret : Option FieldType} {lv nl : Nat} (C : CX Z y cc ret lv nl) {c idx a : Nat} {r : vw_C} {v : Int} {μ1 : Me} (hc : zCl[c]? = some r) (k0 : Nat) (hk : k0 < r.2.2) (ht : zkI (zty c k0) = true) (hn : narrow (zty c k0) (vI v) = vI v ∧ fits (zty c k0) (vI v) = true) (hf : (r.2.1 k0).2.2.2 = false) (h : pI μ c a k0 v = some μ1) {host : String} (q : (Cond.fieldLinkNest y.cls idx (r.2.1 k0).1 (r.2.1 k0).2.1 (r.2.1 k0).2.2.1 host) ∈ lw_nst) (d : decode cc pc = .ok (.putfield idx, 3)) (k : WL Z Q μ1 (pc + 3) L (st)) : WL Z Q μ pc L (vI v :: vO a :: st) := by
  intro H locs ls hR hS hl
  exact putCN C hR hS hc k0 hk (pI_ok ht h) hn hf (C.nst q) d (fun H1 locs1 hR1 hS1 => k H1 locs1 ls hR1 hS1 hl)
theorem r_putIF {Z : Zt} {Q : State → Prop} {μ : Me} {pc : Nat} {L : List (Nat × Value)} {st : List Value} {y : MethodName} {cc : ByteArray} {ret : Option FieldType} {lv nl : Nat} (C : CX Z y cc ret lv nl) {c idx a : Nat} {r : vw_C} {v : Int} {μ1 : Me} (hc : zCl[c]? = some r) (k0 : Nat) (hk : k0 < r.2.2) (ht : zkI (zty c k0) = true) (hn : narrow (zty c k0) (vI v) = vI v ∧ fits (zty c k0) (vI v) = true) (hf : (r.2.1 k0).2.2.2 = true) (hdc : (r.2.1 k0).1 = y.cls) (hin : y.name = "<init>") (h : pI μ c a k0 v = some μ1) (q : (Cond.fieldLink y.cls idx (r.2.1 k0).1 (r.2.1 k0).2.1 (r.2.1 k0).2.2.1) ∈ lw_all) (d : decode cc pc = .ok (.putfield idx, 3)) (k : WL Z Q μ1 (pc + 3) L (st)) : WL Z Q μ pc L (vI v :: vO a :: st) := by
  intro H locs ls hR hS hl
  exact putCF C hR hS hc k0 hk (pI_ok ht h) hn hf hdc hin (C.hts _ q) d (fun H1 locs1 hR1 hS1 => k H1 locs1 ls hR1 hS1 hl)
theorem r_putJ {Z : Zt} {Q : State → Prop} {μ : Me} {pc : Nat} {L : List (Nat × Value)} {st : List Value} {y : MethodName} {cc : ByteArray} {ret : Option FieldType} {lv nl : Nat} (C : CX Z y cc ret lv nl) {c idx a : Nat} {r : vw_C} {v : Int} {μ1 : Me} (hc : zCl[c]? = some r) (k0 : Nat) (hk : k0 < r.2.2) (ht : zkJ (zty c k0) = true)  (hf : (r.2.1 k0).2.2.2 = false) (h : pJ μ c a k0 v = some μ1) (q : (Cond.fieldLink y.cls idx (r.2.1 k0).1 (r.2.1 k0).2.1 (r.2.1 k0).2.2.1) ∈ lw_all) (d : decode cc pc = .ok (.putfield idx, 3)) (k : WL Z Q μ1 (pc + 3) L (st)) : WL Z Q μ pc L (vJ v :: vO a :: st) := by
  intro H locs ls hR hS hl
  exact putC C hR hS hc k0 hk (pJ_ok ht h) (nfJ ht) hf (C.hts _ q) d (fun H1 locs1 hR1 hS1 => k H1 locs1 ls hR1 hS1 hl)
theorem r_putJN {Z : Zt} {Q : State → Prop} {μ : Me} {pc : Nat} {L : List (Nat × Value)} {st : List Value} {y : MethodName} {cc : ByteArray} {ret : Option FieldType} {lv nl : Nat} (C : CX Z y cc ret lv nl) {c idx a : Nat} {r : vw_C} {v : Int} {μ1 : Me} (hc : zCl[c]? = some r) (k0 : Nat) (hk : k0 < r.2.2) (ht : zkJ (zty c k0) = true)  (hf : (r.2.1 k0).2.2.2 = false) (h : pJ μ c a k0 v = some μ1) {host : String} (q : (Cond.fieldLinkNest y.cls idx (r.2.1 k0).1 (r.2.1 k0).2.1 (r.2.1 k0).2.2.1 host) ∈ lw_nst) (d : decode cc pc = .ok (.putfield idx, 3)) (k : WL Z Q μ1 (pc + 3) L (st)) : WL Z Q μ pc L (vJ v :: vO a :: st) := by
  intro H locs ls hR hS hl
  exact putCN C hR hS hc k0 hk (pJ_ok ht h) (nfJ ht) hf (C.nst q) d (fun H1 locs1 hR1 hS1 => k H1 locs1 ls hR1 hS1 hl)
theorem r_putJF {Z : Zt} {Q : State → Prop} {μ : Me} {pc : Nat} {L : List (Nat × Value)} {st : List Value} {y : MethodName} {cc : ByteArray} {ret : Option FieldType} {lv nl : Nat} (C : CX Z y cc ret lv nl) {c idx a : Nat} {r : vw_C} {v : Int} {μ1 : Me} (hc : zCl[c]? = some r) (k0 : Nat) (hk : k0 < r.2.2) (ht : zkJ (zty c k0) = true)  (hf : (r.2.1 k0).2.2.2 = true) (hdc : (r.2.1 k0).1 = y.cls) (hin : y.name = "<init>") (h : pJ μ c a k0 v = some μ1) (q : (Cond.fieldLink y.cls idx (r.2.1 k0).1 (r.2.1 k0).2.1 (r.2.1 k0).2.2.1) ∈ lw_all) (d : decode cc pc = .ok (.putfield idx, 3)) (k : WL Z Q μ1 (pc + 3) L (st)) : WL Z Q μ pc L (vJ v :: vO a :: st) := by
  intro H locs ls hR hS hl
  exact putCF C hR hS hc k0 hk (pJ_ok ht h) (nfJ ht) hf hdc hin (C.hts _ q) d (fun H1 locs1 hR1 hS1 => k H1 locs1 ls hR1 hS1 hl)
theorem r_putR {Z : Zt} {Q : State → Prop} {μ : Me} {pc : Nat} {L : List (Nat × Value)} {st : List Value} {y : MethodName} {cc : ByteArray} {ret : Option FieldType} {lv nl : Nat} (C : CX Z y cc ret lv nl) {c idx a : Nat} {r : vw_C} {v : Nat} {μ1 : Me} (hc : zCl[c]? = some r) (k0 : Nat) (hk : k0 < r.2.2) (ht : zkR (zty c k0) = true)  (hf : (r.2.1 k0).2.2.2 = false) (h : pR μ c a k0 v = some μ1) (q : (Cond.fieldLink y.cls idx (r.2.1 k0).1 (r.2.1 k0).2.1 (r.2.1 k0).2.2.1) ∈ lw_all) (d : decode cc pc = .ok (.putfield idx, 3)) (k : WL Z Q μ1 (pc + 3) L (st)) : WL Z Q μ pc L (vO v :: vO a :: st) := by
  intro H locs ls hR hS hl
  exact putC C hR hS hc k0 hk (pR_ok ht h) (nfR ht) hf (C.hts _ q) d (fun H1 locs1 hR1 hS1 => k H1 locs1 ls hR1 hS1 hl)
theorem r_putRN {Z : Zt} {Q : State → Prop} {μ : Me} {pc : Nat} {L : List (Nat × Value)} {st : List Value} {y : MethodName} {cc : ByteArray} {ret : Option FieldType} {lv nl : Nat} (C : CX Z y cc ret lv nl) {c idx a : Nat} {r : vw_C} {v : Nat} {μ1 : Me} (hc : zCl[c]? = some r) (k0 : Nat) (hk : k0 < r.2.2) (ht : zkR (zty c k0) = true)  (hf : (r.2.1 k0).2.2.2 = false) (h : pR μ c a k0 v = some μ1) {host : String} (q : (Cond.fieldLinkNest y.cls idx (r.2.1 k0).1 (r.2.1 k0).2.1 (r.2.1 k0).2.2.1 host) ∈ lw_nst) (d : decode cc pc = .ok (.putfield idx, 3)) (k : WL Z Q μ1 (pc + 3) L (st)) : WL Z Q μ pc L (vO v :: vO a :: st) := by
  intro H locs ls hR hS hl
  exact putCN C hR hS hc k0 hk (pR_ok ht h) (nfR ht) hf (C.nst q) d (fun H1 locs1 hR1 hS1 => k H1 locs1 ls hR1 hS1 hl)
theorem r_putRF {Z : Zt} {Q : State → Prop} {μ : Me} {pc : Nat} {L : List (Nat × Value)} {st : List Value} {y : MethodName} {cc : ByteArray} {ret : Option FieldType} {lv nl : Nat} (C : CX Z y cc ret lv nl) {c idx a : Nat} {r : vw_C} {v : Nat} {μ1 : Me} (hc : zCl[c]? = some r) (k0 : Nat) (hk : k0 < r.2.2) (ht : zkR (zty c k0) = true)  (hf : (r.2.1 k0).2.2.2 = true) (hdc : (r.2.1 k0).1 = y.cls) (hin : y.name = "<init>") (h : pR μ c a k0 v = some μ1) (q : (Cond.fieldLink y.cls idx (r.2.1 k0).1 (r.2.1 k0).2.1 (r.2.1 k0).2.2.1) ∈ lw_all) (d : decode cc pc = .ok (.putfield idx, 3)) (k : WL Z Q μ1 (pc + 3) L (st)) : WL Z Q μ pc L (vO v :: vO a :: st) := by
  intro H locs ls hR hS hl
  exact putCF C hR hS hc k0 hk (pR_ok ht h) (nfR ht) hf hdc hin (C.hts _ q) d (fun H1 locs1 hR1 hS1 => k H1 locs1 ls hR1 hS1 hl)
theorem r_iast {Z : Zt} {Q : State → Prop} {μ : Me} {pc : Nat} {L : List (Nat × Value)} {st : List Value} {y : MethodName} {cc : ByteArray} {ret : Option FieldType} {lv nl : Nat} (C : CX Z y cc ret lv nl) {a : Nat} {j x : Int} {μ1 : Me} (h : uI μ a j x = some μ1) (d : decode cc pc = .ok (.iastore, 1)) (k : WL Z Q μ1 (pc + 1) L (st)) : WL Z Q μ pc L (vI x :: vI j :: vO a :: st) := by
  intro H locs ls hR hS hl
  obtain ⟨cell, h0, h1, h2, h3, h4⟩ := iast_ok C hR hS h
  refine W.iast C.ex C.by_ h0 h1 h2 h3 rfl rfl d fun H1 e1 e2 e3 => ?_
  obtain ⟨hR1, hS1, z1, z2⟩ := h4 H1 e1 e2 e3
  rw [← z1, ← z2]
  exact k H1 _ ls hR1 hS1 hl
theorem r_bast {Z : Zt} {Q : State → Prop} {μ : Me} {pc : Nat} {L : List (Nat × Value)} {st : List Value} {y : MethodName} {cc : ByteArray} {ret : Option FieldType} {lv nl : Nat} (C : CX Z y cc ret lv nl) {a : Nat} {j x : Int} {μ1 : Me} (h : uB μ a j x = some μ1) (d : decode cc pc = .ok (.bastore, 1)) (k : WL Z Q μ1 (pc + 1) L (st)) : WL Z Q μ pc L (vI x :: vI j :: vO a :: st) := by
  intro H locs ls hR hS hl
  obtain ⟨cell, h0, h1, h2, h3, h4⟩ := bast_ok C hR hS h
  refine W.bast C.ex C.by_ h0 h1 h2 h3 rfl rfl d fun H1 e1 e2 e3 => ?_
  obtain ⟨hR1, hS1, z1, z2⟩ := h4 H1 e1 e2 e3
  rw [← z1, ← z2]
  exact k H1 _ ls hR1 hS1 hl
theorem r_last {Z : Zt} {Q : State → Prop} {μ : Me} {pc : Nat} {L : List (Nat × Value)} {st : List Value} {y : MethodName} {cc : ByteArray} {ret : Option FieldType} {lv nl : Nat} (C : CX Z y cc ret lv nl) {a : Nat} {j x : Int} {μ1 : Me} (h : uJ μ a j x = some μ1) (d : decode cc pc = .ok (.lastore, 1)) (k : WL Z Q μ1 (pc + 1) L (st)) : WL Z Q μ pc L (vJ x :: vI j :: vO a :: st) := by
  intro H locs ls hR hS hl
  obtain ⟨cell, h0, h1, h2, h3, h4⟩ := last_ok C hR hS h
  refine W.last C.ex C.by_ h0 h1 h2 h3 rfl rfl d fun H1 e1 e2 e3 => ?_
  obtain ⟨hR1, hS1, z1, z2⟩ := h4 H1 e1 e2 e3
  rw [← z1, ← z2]
  exact k H1 _ ls hR1 hS1 hl
theorem r_tsIn {Z : Zt} {Q : State → Prop} {μ : Me} {pc : Nat} {L : List (Nat × Value)} {st : List Value} {y : MethodName} {cc : ByteArray} {ret : Option FieldType} {lv nl : Nat} (C : CX Z y cc ret lv nl) {a dflt lo hi off j : Int} {offs : Array Int} {len tgt : Nat} (d : decode cc pc = .ok (.tableswitch dflt lo hi offs, len)) (hj : w32 a = j) (h1 : lo ≤ j) (h2 : j ≤ hi) (ho : offs[(j - lo).toNat]? = some off) (ht : (pc : Int) + off = (tgt : Int)) (k : WL Z Q μ tgt L (st)) : WL Z Q μ pc L (vI a :: st) := by
  intro H locs ls hR hS hl
  exact lv_tableIn C.ex C.by_ d (by rw [w32_eq, hj]; omega) (by rw [w32_eq, hj]; omega) (by rw [w32_eq, hj]; exact ho) ht (k H locs ls hR hS hl)
theorem r_tsOut {Z : Zt} {Q : State → Prop} {μ : Me} {pc : Nat} {L : List (Nat × Value)} {st : List Value} {y : MethodName} {cc : ByteArray} {ret : Option FieldType} {lv nl : Nat} (C : CX Z y cc ret lv nl) {a dflt lo hi : Int} {offs : Array Int} {len tgt : Nat} (d : decode cc pc = .ok (.tableswitch dflt lo hi offs, len)) (h : w32 a < lo ∨ hi < w32 a) (ht : (pc : Int) + dflt = (tgt : Int)) (k : WL Z Q μ tgt L (st)) : WL Z Q μ pc L (vI a :: st) := by
  intro H locs ls hR hS hl
  exact lv_tableOut C.ex C.by_ d (by rw [w32_eq]; exact h) ht (k H locs ls hR hS hl)
theorem r_iret {Z : Zt} {μ : Me} {pc : Nat} {L : List (Nat × Value)} {y : MethodName} {cc : ByteArray} {lv nl : Nat} {x : Int} {w : Int × Me} (C : CX Z y cc (some .int) lv nl) (hw : (x, μ) = w) (d : decode cc pc = .ok (.ireturn, 1)) : WL Z (QN Z (some (vI w.1)) w.2) μ pc L [vI x] := by
  subst hw
  intro H locs ls hR hS hl
  exact W.widen hS.ca hS.sa (W.iret C.ex C.by_ C.rt (fun t ht _ => hS.fin hR ht) hS.1.2.2 d C.lk)
theorem r_lret {Z : Zt} {μ : Me} {pc : Nat} {L : List (Nat × Value)} {y : MethodName} {cc : ByteArray} {lv nl : Nat} {x : Int} {w : Int × Me} (C : CX Z y cc (some .long) lv nl) (hw : (x, μ) = w) (d : decode cc pc = .ok (.lreturn, 1)) : WL Z (QN Z (some (vJ w.1)) w.2) μ pc L [vJ x] := by
  subst hw
  intro H locs ls hR hS hl
  exact W.widen hS.ca hS.sa (W.lret C.ex C.by_ C.rt (fun t ht _ => hS.fin hR ht) hS.1.2.2 d C.lk)
theorem r_zret {Z : Zt} {μ : Me} {pc : Nat} {L : List (Nat × Value)} {y : MethodName} {cc : ByteArray} {lv nl : Nat} {x : Int} {w : Int × Me} (C : CX Z y cc (some .boolean) lv nl) (hz : x = 0 ∨ x = 1) (hw : (x, μ) = w) (d : decode cc pc = .ok (.ireturn, 1)) : WL Z (QN Z (some (vI w.1)) w.2) μ pc L [vI x] := by
  subst hw
  intro H locs ls hR hS hl
  exact W.widen hS.ca hS.sa (W.zret C.ex C.by_ C.rt (z_narB hz) (fun t ht _ => hS.fin hR ht) hS.1.2.2 d C.lk)
theorem r_vret {Z : Zt} {μ : Me} {pc : Nat} {L : List (Nat × Value)} {y : MethodName} {cc : ByteArray} {lv nl : Nat} {w : Me} (C : CX Z y cc none lv nl) (hw : μ = w) (d : decode cc pc = .ok (.return_, 1)) : WL Z (QN Z none w) μ pc L [] := by
  subst hw
  intro H locs ls hR hS hl
  exact W.widen hS.ca hS.sa (W.vret C.ex C.by_ C.rt (fun t ht _ => hS.fin hR ht) hS.1.2.2 d C.lk)
theorem r_aret {Z : Zt} {μ : Me} {pc : Nat} {L : List (Nat × Value)} {y : MethodName} {cc : ByteArray} {lv nl : Nat} {x : Nat} {w : Nat × Me} {rt : FieldType} (C : CX Z y cc (some rt) lv nl) (hrt : (∃ n, rt = .object n) ∨ ∃ t, rt = .array t) (hw : (x, μ) = w) (d : decode cc pc = .ok (.areturn, 1)) : WL Z (QN Z (some (vO w.1)) w.2) μ pc L [vO x] := by
  subst hw
  intro H locs ls hR hS hl
  exact W.widen hS.ca hS.sa (W.aret C.ex C.by_ C.rt hrt (Or.inr ⟨_, rfl⟩) (fun t ht _ => hS.fin hR ht) hS.1.2.2 d C.lk)

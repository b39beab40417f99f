/-! THE JUDGEMENT: one walk over one memory -/
set_option maxRecDepth 100000
/-- program, launch, env, room, state, method, args, below, its method, its code, classes' numbers, first free address, locals -/
abbrev Zt : Type := Program × Launch × Env × Room × State × MethodId × Array Value × List Frame × Method × Code × va_G × Nat × Nat
def zNest : Cond → Bool
  | .fieldLinkNest _ _ _ _ _ _ => true
  | .methodLinkNest _ _ _ _ => true
  | .castable _ _ => true
  | .declares _ => true
  | _ => false
def lw_nst : List Cond := lw_tbl.filter zNest
theorem lw_n {w : Cond} (h : w ∈ lw_tbl) (g : zNest w = true) : w ∈ lw_nst := List.mem_filter.mpr ⟨h, g⟩
def zAO (U : State) : Prop := (Cond.arrayOver (.array .int)).before #[] U = true
theorem zAO_spec {U : State} (h : zAO U) : ∃ comp c k, U.vm.findClass (FieldType.array .int).toString = some comp ∧ (U.vm.classes.findIdx? fun x => match x.kind with | .array component _ => component == comp | _ => false) = some c ∧ U.vm.classes[c]? = some k ∧ k.kind = .array comp (.array .int) ∧ U.vm.findClass ("[" ++ (FieldType.array .int).toString) = some c := by
  unfold zAO Cond.before at h
  simp only [Cond.holds, Cond.value, beq_iff_eq] at h
  cases hc : U.vm.findClass (FieldType.array .int).toString with
  | none => simp [hc] at h
  | some comp =>
    simp only [hc, Option.bind_some, Option.bind_eq_some_iff, Option.map_eq_some_iff] at h
    obtain ⟨c, hi, k, hk, hb⟩ := h
    obtain ⟨hlt, hp, -⟩ := Array.findIdx?_eq_some_iff_getElem.mp hi
    have hkk : U.vm.classes[c] = k := (Array.getElem?_eq_some_iff.mp hk).2
    rw [hkk] at hp
    cases hkind : k.kind with
    | array component ty =>
      rw [hkind] at hb hp
      simp at hb hp
      exact ⟨comp, c, k, rfl, hi, hk, by rw [hkind, hp, hb.1], hb.2⟩
    | _ => rw [hkind] at hb; simp at hb
theorem zAO.moved {u U : State} (hvm : u.vm.Alike U.vm) (h : zAO u) : zAO U := by
  obtain ⟨comp, c, k, h1, h2, h3, h4, h5⟩ := zAO_spec h
  obtain ⟨k', hk', he⟩ := hvm.2.2 _ _ h3
  have hi : (U.vm.classes.findIdx? fun (x : Class) => match x.kind with | .array component _ => component == comp | _ => false) = some c := by
    refine (va_idx_bare U.vm comp).symm.trans ?_
    first | rw [hvm.bare_eq] | rw [← hvm.bare_eq]
    exact (va_idx_bare u.vm comp).trans h2
  have hkind : k'.kind = .array comp (.array .int) := by rw [he]; exact h4
  have f1 : U.vm.findClass (FieldType.array .int).toString = some comp := by rw [hvm.findClass]; exact h1
  have f2 : U.vm.findClass ("[" ++ (FieldType.array .int).toString) = some c := by rw [hvm.findClass]; exact h5
  unfold zAO Cond.before Cond.holds
  simp only [Cond.value]
  rw [f1, Option.bind_some]
  refine (congrArg (fun o : Option Nat => (o.bind (fun c => (U.vm.classes[c]?).map fun (k : Class) => match k.kind with | .array _ ty => decide (ty = FieldType.array .int) && decide (U.vm.findClass ("[" ++ (FieldType.array .int).toString) = some c) | _ => false) == some true)) hi).trans ?_
  simp [hk', hkind, f2]
/-- the exceptions by numbers -/
def exn (k : Nat) : String := match k with
  | 0 => "java/lang/IllegalArgumentException"
  | 1 => "java/lang/IllegalStateException"
  | 2 => "java/lang/UnsupportedOperationException"
  | 3 => "java/lang/IndexOutOfBoundsException"
  | 4 => "java/util/NoSuchElementException"
  | _ => "LetterForms$Wrong"
/-- what the tables say -/
def KT (D : va_G) (U : State) : Prop := va_K D zCl (zTy D) U ∧ (∀ w ∈ lw_nst, va_Nw w U) ∧ va_AO "LetterForms$Form" U ∧ va_AO "LetterForms$Sign" U ∧ va_AO "LetterForms$Act" U ∧ zAO U ∧ ∀ i j : Nat, i < 5 → j < 5 → i ≠ j → va_Nc (exn i) (exn j) U
def ZQ (b0 : Nat) (U : State) (H : Heap) : Prop := vx_Zq Bundle.tN "UNASSIGNED_STACK" Bundle.steD (fun q => b0 ≤ q) U H ∧ vx_Zq Bundle.tN "SUPPRESSED_SENTINEL" Bundle.listD (fun q => b0 ≤ q) U H
theorem va_Nw.nest {w : Cond} (g : zNest w = true) {s U : State} (hW : s.WarmedH U.vm) (h : va_Nw w s) : va_Nw w U := by
  cases w <;> first | (cases g; done) | exact va_Nw.warmF hW h | exact va_Nw.warmM hW h | exact va_Nw.warmC hW h | exact va_Nw.warmD hW h
theorem KT.warm {D : va_G} {s U : State} (hW : s.WarmedH U.vm) (h : KT D s) : KT D U :=
  ⟨va_K.moved hW.alike h.1, fun w hw => va_Nw.nest (List.mem_filter.mp hw).2 hW (h.2.1 w hw), va_AO.moved hW.alike h.2.2.1, va_AO.moved hW.alike h.2.2.2.1, va_AO.moved hW.alike h.2.2.2.2.1, zAO.moved hW.alike h.2.2.2.2.2.1, fun i j h1 h2 h3 => va_Nc.moved hW.alike (h.2.2.2.2.2.2 i j h1 h2 h3)⟩
def RPU (D : va_G) (b0 : Nat) (μ : Me) (U : State) : Prop := RP D b0 μ U.heap ∧ KT D U ∧ ZQ b0 U U.heap ∧ b0 ≤ U.heap.size
/-- what holds all through a method's walk -/
def CX (Z : Zt) (y : MethodName) (cc : ByteArray) (ret : Option FieldType) (lv nl : Nat) : Prop := match Z with
  | (p, l, _, R, s, m, args, _, meth, c, D, b0, nL) =>
    p.tables.exec = Jvm.exec ∧ c.code = cc ∧ meth.sig.returnType = ret ∧ c.maxLocals = nL ∧ s.vm.findClass y.cls = some m.cls ∧ (∀ w ∈ lw_all, w.before args s = true) ∧ meth.locks = false ∧ meth.name = y.name ∧
    KT D s ∧ ZQ b0 s s.heap ∧ b0 ≤ s.heap.size ∧ l.stackTraces = false ∧ lv ≤ R.frames ∧ 64 * lv ≤ R.locals ∧ nL = nl
def WL (Z : Zt) (Q : State → Prop) (μ : Me) (pc : Nat) (L : List (Nat × Value)) (st : List Value) : Prop :=
  ∀ (H : Heap) (locs : List Loc) (ls : Array Slot), RP Z.2.2.2.2.2.2.2.2.2.2.1 Z.2.2.2.2.2.2.2.2.2.2.2.1 μ H → SS Z.2.2.2.2.2.2.2.2.2.2.2.1 Z.2.2.2.2.1.heap Z.2.2.2.1 μ H locs → lv_has ls Z.2.2.2.2.2.2.2.2.2.2.2.2 L →
    W Z.1 Z.2.1 Z.2.2.1 Z.2.2.2.1 Z.2.2.2.2.1 Z.2.2.2.2.2.1 Z.2.2.2.2.2.2.1 Z.2.2.2.2.2.2.2.1 Z.2.2.2.2.2.2.2.2.1 Z.2.2.2.2.2.2.2.2.2.1 H locs (H.size - Z.2.2.2.2.1.heap.size) (nsl Z.2.2.2.2.1.heap.size H) Q (F0 Z.2.2.2.2.2.1 pc ls st)
def QcM (D : va_G) (b0 kc ks : Nat) (μ1 : Me) (st t : State) : Prop :=
  RP D b0 μ1 t.heap ∧ va_F (fun q => b0 ≤ q) st t ∧ (∀ q : Nat, q < st.heap.size → (t.heap[q]?).map (fun c : Cell => c.slots.size) = (st.heap[q]?).map (fun c : Cell => c.slots.size)) ∧
  t.heap.size + μ1.1.1.2.1 ≤ st.heap.size + kc ∧ nsl st.heap.size t.heap + μ1.1.1.2.2 ≤ ks
def QcN (D : va_G) (b0 kc ks : Nat) (v : Option Value) (μ1 : Me) : Array Value → State → Outcome → State → Prop := fun _ st o t => o = .returned v ∧ QcM D b0 kc ks μ1 st t
abbrev rmv (lv : Nat) (μ : Me) : Room := { frames := lv, cells := μ.1.1.2.1, slots := μ.1.1.2.2, locals := 64 * lv }
def MN (l : Launch) (D : va_G) (b0 : Nat) (y : MethodName) (ws : List Cond) (lv : Nat) (As : List Value) (μ : Me) (v : Option Value) (μ1 : Me) : Prop :=
  Met l y ws (rmv lv μ) (va_Pc As (RPU D b0 μ)) (QcN D b0 μ.1.1.2.1 μ.1.1.2.2 v μ1) μ.1.1.2.1 μ.1.1.2.2 (fun q => b0 ≤ q)
def QN (Z : Zt) (v : Option Value) (μ1 : Me) : State → Prop :=
  MQ Z.2.2.2.2.2.2.2.1 (QcN Z.2.2.2.2.2.2.2.2.2.2.1 Z.2.2.2.2.2.2.2.2.2.2.2.1 Z.2.2.2.1.cells Z.2.2.2.1.slots v μ1) Z.2.2.2.2.2.2.1 Z.2.2.2.2.1 Z.2.2.2.1.cells Z.2.2.2.1.slots (fun q => Z.2.2.2.2.2.2.2.2.2.2.2.1 ≤ q)
section CXs
variable {Z : Zt} {y : MethodName} {cc : ByteArray} {ret : Option FieldType} {lv nl : Nat}
theorem CX.ex (C : CX Z y cc ret lv nl) : Z.1.tables.exec = Jvm.exec := C.1
theorem CX.by_ (C : CX Z y cc ret lv nl) : Z.2.2.2.2.2.2.2.2.2.1.code = cc := C.2.1
theorem CX.rt (C : CX Z y cc ret lv nl) : Z.2.2.2.2.2.2.2.2.1.sig.returnType = ret := C.2.2.1
theorem CX.ml (C : CX Z y cc ret lv nl) : Z.2.2.2.2.2.2.2.2.2.1.maxLocals = Z.2.2.2.2.2.2.2.2.2.2.2.2 := C.2.2.2.1
theorem CX.own (C : CX Z y cc ret lv nl) : Z.2.2.2.2.1.vm.findClass y.cls = some Z.2.2.2.2.2.1.cls := C.2.2.2.2.1
theorem CX.hts (C : CX Z y cc ret lv nl) : ∀ w ∈ lw_all, w.before Z.2.2.2.2.2.2.1 Z.2.2.2.2.1 = true := C.2.2.2.2.2.1
theorem CX.lk (C : CX Z y cc ret lv nl) : Z.2.2.2.2.2.2.2.2.1.locks = false := C.2.2.2.2.2.2.1
theorem CX.nm (C : CX Z y cc ret lv nl) : Z.2.2.2.2.2.2.2.2.1.name = y.name := C.2.2.2.2.2.2.2.1
theorem CX.kt (C : CX Z y cc ret lv nl) : KT Z.2.2.2.2.2.2.2.2.2.2.1 Z.2.2.2.2.1 := C.2.2.2.2.2.2.2.2.1
theorem CX.zq (C : CX Z y cc ret lv nl) : ZQ Z.2.2.2.2.2.2.2.2.2.2.2.1 Z.2.2.2.2.1 Z.2.2.2.2.1.heap := C.2.2.2.2.2.2.2.2.2.1
theorem CX.b0 (C : CX Z y cc ret lv nl) : Z.2.2.2.2.2.2.2.2.2.2.2.1 ≤ Z.2.2.2.2.1.heap.size := C.2.2.2.2.2.2.2.2.2.2.1
theorem CX.tr (C : CX Z y cc ret lv nl) : Z.2.1.stackTraces = false := C.2.2.2.2.2.2.2.2.2.2.2.1
theorem CX.fr (C : CX Z y cc ret lv nl) : lv ≤ Z.2.2.2.1.frames ∧ 64 * lv ≤ Z.2.2.2.1.locals := ⟨C.2.2.2.2.2.2.2.2.2.2.2.2.1, C.2.2.2.2.2.2.2.2.2.2.2.2.2.1⟩
theorem CX.nl_ (C : CX Z y cc ret lv nl) : Z.2.2.2.2.2.2.2.2.2.2.2.2 = nl := C.2.2.2.2.2.2.2.2.2.2.2.2.2.2
theorem CX.nst (C : CX Z y cc ret lv nl) {w : Cond} (h : w ∈ lw_nst) : w.before Z.2.2.2.2.2.2.1 Z.2.2.2.2.1 = true := va_Nw.use (by have := (List.mem_filter.mp h).2; cases w <;> first | rfl | cases this) (C.kt.2.1 w h)
end CXs
theorem SS.ca {b0 : Nat} {H0 : Heap} {R : Room} {μ : Me} {H : Heap} {locs : List Loc} (h : SS b0 H0 R μ H locs) : H.size - H0.size ≤ R.cells := by have := h.2.2.1; omega
theorem SS.sa {b0 : Nat} {H0 : Heap} {R : Room} {μ : Me} {H : Heap} {locs : List Loc} (h : SS b0 H0 R μ H locs) : nsl H0.size H ≤ R.slots := by have := h.2.2.2; omega
theorem SS.fin {b0 : Nat} {s t : State} {R : Room} {μ : Me} {H : Heap} {locs : List Loc} {D : va_G} {v : Option Value} {A : Array Value} (h : SS b0 s.heap R μ H locs) (hR : RP D b0 μ H) (ht : t.heap = H) : QcN D b0 R.cells R.slots v μ A s (.returned v) t := by
  subst ht
  exact ⟨rfl, hR, h.1.F rfl, h.2.1, h.2.2.1, h.2.2.2⟩
theorem Met.ofWF {l : Launch} {y : MethodName} {ws ws' : List Cond} {rm : Room} {Pc : Array Value → State → Prop} {Qc : Array Value → State → Outcome → State → Prop} {mc ms : Nat} {free : Addr → Prop} {cc : ByteArray} {maxL : Nat} {ret : Option FieldType}
    (hy : plainFor y = true) (hw : ws = Cond.code y cc maxL ret :: ws')
    (body : ∀ p e s m args below meth c s₁, BodyLoose p l y (headSpec ws rm) cc maxL ret e s m args below meth c s₁ → c.maxLocals = maxL → Pc args s →
      W p l e (headSpec ws rm).room s m args below meth c s.heap [] 0 0 (MQ below Qc args s mc ms free) (entryFrame m args maxL)) : Met l y ws rm Pc Qc mc ms free := by
  refine MetFree.of_bodySF (code := cc) (maxLocals := maxL) (ret := ret) hy ?_ ?_
  · intro args s m h hn
    obtain ⟨meth, c, h1, h2, h3, h4, h5, h6, -, -⟩ := Cond.code_spec hn (atoms_spec (ws := ws) h _ (by rw [hw]; exact List.mem_cons_self))
    exact ⟨meth, c, h1, h2, h3, h4, h5, h6⟩
  · intro p e s m args below meth c s₁ B hml hP _
    have hh0 : s₁.heap = s.heap := by rw [B.state]; rfl
    obtain ⟨t, a1, o, b1, b2, b3⟩ := body p e s m args below meth c s₁ B hml hP s₁ hh0 (Stand.of_body B)
    exact ⟨t, o, a1, b1, b2, ⟨b3.1, b3.2⟩⟩
/-- a contract out of a walk -/
theorem MN.of {l : Launch} {D : va_G} {b0 : Nat} {y : MethodName} {bytes : ByteArray} {maxL : Nat} {ret : Option FieldType} {lv : Nat} {As : List Value} {μ : Me} {v : Option Value} {μ1 : Me} (hl : l.stackTraces = false) (hy : plainFor y = true) (hn : (lg_sl As).length ≤ maxL)
    (body : ∀ Z : Zt, CX Z y bytes ret lv maxL → Z.2.1 = l → Z.2.2.2.2.2.2.2.2.2.2 = (D, b0, maxL) → WL Z (QN Z v μ1) μ 0 (lv_args 0 As) []) : MN l D b0 y (ws_ y bytes maxL ret) lv As μ v μ1 := by
  refine Met.ofWF (cc := bytes) (maxL := maxL) (ret := ret) hy rfl ?_
  intro p e s m args below meth c s₁ B hml hv
  obtain ⟨rfl, hR, hK, hZ, hb0⟩ := hv
  have hts := atoms_spec (ws := ws_ y bytes maxL ret) B.pre
  have hts : ∀ w ∈ lw_all, w.before As.toArray s = true := fun w h => hts w (List.mem_cons_of_mem _ h)
  have C : CX (p, l, e, rmv lv μ, s, m, As.toArray, below, meth, c, D, b0, maxL) y bytes ret lv maxL :=
    ⟨B.exec, B.bytes, B.returns, hml, findClass_of_methodNamed B.named, hts, B.notSynchronized, (name_of_methodNamed B.named B.method).1, hK, hZ, hb0, hl, Nat.le_refl _, Nat.le_refl _, rfl⟩
  have h := body _ C rfl rfl
  rw [lg_entry_eq]
  have hlv := lv_entry As (n := maxL) hn
  have h9 := h s.heap [] _ hR ⟨va_S.rf, fun _ _ => rfl, Nat.le_refl _, by rw [nsl_self]; exact Nat.le_of_eq (Nat.zero_add _)⟩ hlv
  exact W.exact h9
/-- behind a call -/
theorem WL.call {Z : Zt} {Q : State → Prop} {μ μ1 : Me} {pc : Nat} {L : List (Nat × Value)} {st0 rest : List Value} {v : Option Value} {As : Array Value}
    (hr : ∀ (H : Heap) (locs : List Loc) (ls : Array Slot), RP Z.2.2.2.2.2.2.2.2.2.2.1 Z.2.2.2.2.2.2.2.2.2.2.2.1 μ H → SS Z.2.2.2.2.2.2.2.2.2.2.2.1 Z.2.2.2.2.1.heap Z.2.2.2.1 μ H locs → lv_has ls Z.2.2.2.2.2.2.2.2.2.2.2.2 L →
      va_Run Z.1 Z.2.1 Z.2.2.1 Z.2.2.2.1 Z.2.2.2.2.1 Z.2.2.2.2.2.1 Z.2.2.2.2.2.2.1 Z.2.2.2.2.2.2.2.1 Z.2.2.2.2.2.2.2.2.1 Z.2.2.2.2.2.2.2.2.2.1 H locs (H.size - Z.2.2.2.2.1.heap.size) (nsl Z.2.2.2.2.1.heap.size H) μ.1.1.2.1 μ.1.1.2.2 (F0 Z.2.2.2.2.2.1 pc ls st0) rest (QcN Z.2.2.2.2.2.2.2.2.2.2.1 Z.2.2.2.2.2.2.2.2.2.2.2.1 μ.1.1.2.1 μ.1.1.2.2 v μ1 As) (fun q => Z.2.2.2.2.2.2.2.2.2.2.2.1 ≤ q))
    (kk : WL Z Q μ1 (pc + 3) L (v.toList ++ rest)) : WL Z Q μ pc L st0 := by
  intro H locs ls hR hS hl T hT X
  obtain ⟨v', st₀, t, T', L', h0, X', hL, e1, e2, ⟨q1, q2, q3, q4, q5, q6⟩, st⟩ := hr H locs ls hR hS hl T hT X
  cases q1
  subst h0
  obtain ⟨s1, s2, s3, s4⟩ := hS
  have z1 : Z.2.2.2.2.1.heap.size ≤ st₀.heap.size := s1.1
  have z2 : st₀.heap.size ≤ t.heap.size := q3.1
  have hS' : SS Z.2.2.2.2.2.2.2.2.2.2.2.1 Z.2.2.2.2.1.heap Z.2.2.2.1 μ1 t.heap (locs ++ L') := by
    refine ⟨⟨Nat.le_trans z1 z2, fun q h1 h2 => ?_, fun q hq => ?_⟩, fun q hq => ?_, ?_, ?_⟩
    · rw [q3.2 q (Nat.lt_of_lt_of_le h1 z1) h2]
      exact s1.2.1 q h1 h2
    · rcases List.mem_append.mp hq with h | h
      · exact s1.2.2 q h
      · exact hL q h
    · rw [q4 q (Nat.lt_of_lt_of_le hq z1)]
      exact s2 q hq
    · omega
    · rw [nsl_call z1 q4]
      omega
  obtain ⟨t2, a1, b1⟩ := W.exact (kk t.heap (locs ++ L') ls q2 hS' hl) T' e1 X'
  exact ⟨t2, st t2 a1, b1⟩
theorem RPU.blind {D : va_G} {b0 : Nat} {μ : Me} {As : List Value} : FrameBlind (va_Pc As (RPU D b0 μ)) := by
  intro a U g mk ⟨h1, h2, h3, h4, h5⟩
  refine ⟨h1, h2, KT.warm (U := U.calling g mk a) (State.WarmedH.refl U) h3, ⟨vx_Zq.moved (U := U.calling g mk a) (Vm.Alike.refl U.vm) h4.1, vx_Zq.moved (U := U.calling g mk a) (Vm.Alike.refl U.vm) h4.2⟩, h5⟩
theorem CX.pre {Z : Zt} {y : MethodName} {cc : ByteArray} {ret : Option FieldType} {lv nl : Nat} (C : CX Z y cc ret lv nl) {μ : Me} {H : Heap} {locs : List Loc} (hR : RP Z.2.2.2.2.2.2.2.2.2.2.1 Z.2.2.2.2.2.2.2.2.2.2.2.1 μ H) (hS : SS Z.2.2.2.2.2.2.2.2.2.2.2.1 Z.2.2.2.2.1.heap Z.2.2.2.1 μ H locs) {U : State} (hU : U.heap = H) (hW : Z.2.2.2.2.1.WarmedH U.vm) : RPU Z.2.2.2.2.2.2.2.2.2.2.1 Z.2.2.2.2.2.2.2.2.2.2.2.1 μ U := by
  subst hU
  exact ⟨hR, KT.warm hW C.kt, ⟨vx_Zq.moved hW.alike (C.zq.1.kept hS.1.2.1), vx_Zq.moved hW.alike (C.zq.2.kept hS.1.2.1)⟩, Nat.le_trans C.b0 hS.1.1⟩
theorem ck_ok {μ : Me} {c a : Nat} (h : ck μ c a = some ()) : μ.1.2.1 a = c := by
  unfold ck at h
  by_cases e : μ.1.2.1 a = c
  · exact e
  · rw [if_neg e] at h; cases h
theorem CX.recv {Z : Zt} {y : MethodName} {cc : ByteArray} {ret : Option FieldType} {lv nl : Nat} (C : CX Z y cc ret lv nl) {μ : Me} {H : Heap} (hR : RP Z.2.2.2.2.2.2.2.2.2.2.1 Z.2.2.2.2.2.2.2.2.2.2.2.1 μ H) {ci b : Nat} {r : vw_C} (hc : zCl[ci]? = some r) (hk : ck μ ci b = some ()) : ∃ cell : Cell, H[b]? = some cell ∧ cell.vm.isStatics = false ∧ Z.2.2.2.2.1.vm.findClass r.1 = some cell.cls := by
  obtain ⟨cell, h1, h2, h3, -⟩ := (hR.2.1 b).1 ci r hc (ck_ok hk)
  exact ⟨cell, h1, by rw [h3]; rfl, by rw [h2]; exact (C.kt.1.1 ci r hc).2.1⟩
abbrev zhd (y : MethodName) (n : Nat) : Prop := y.cls ≠ "java/lang/invoke/MethodHandle" ∧ y.cls ≠ "java/lang/invoke/VarHandle" ∧ (parseMethodDescriptor y.desc).map (fun d => d.parameters.length) = some n
section Calls9
variable {Z : Zt} {Q : State → Prop} {μ μ1 : Me} {pc : Nat} {L : List (Nat × Value)} {rest st0 st1 : List Value} {y0 : MethodName} {cc : ByteArray} {ret0 : Option FieldType} {lv0 nl0 : Nat}
theorem CX.room (C : CX Z y0 cc ret0 lv0 nl0) {lv maxL : Nat} {μ : Me} (h : lv + 1 ≤ lv0 ∧ 19 + maxL + 64 * lv ≤ 64 * lv0) : (rmv lv μ).frames + 1 ≤ Z.2.2.2.1.frames ∧ 8 + (maxL + 11) + (rmv lv μ).locals ≤ Z.2.2.2.1.locals := by
  have h1 := C.fr
  show lv + 1 ≤ _ ∧ 8 + (maxL + 11) + 64 * lv ≤ _
  omega
theorem SS.room {b0 : Nat} {H0 : Heap} {R : Room} {μ : Me} {H : Heap} {locs : List Loc} (h : SS b0 H0 R μ H locs) : H.size - H0.size + μ.1.1.2.1 ≤ R.cells ∧ nsl H0.size H + μ.1.1.2.2 ≤ R.slots := by
  have h1 := h.2.2.1
  have h2 := h.1.1
  exact ⟨by omega, h.2.2.2⟩
theorem r_callV (C : CX Z y0 cc ret0 lv0 nl0) {As : List Value} {b ci idx lv maxL n : Nat} {r : vw_C} {y : MethodName} {bytes : ByteArray} {ret : Option FieldType} {v : Option Value} (hc : zCl[ci]? = some r) (hk : ck μ ci b = some ()) (hM : MN Z.2.1 Z.2.2.2.2.2.2.2.2.2.2.1 Z.2.2.2.2.2.2.2.2.2.2.2.1 y (ws_ y bytes maxL ret) lv (.ref b :: As) μ v μ1)
    (hg : GoodIn lw_all (wsV y0.cls idx r.1 y (ws_ y bytes maxL ret))) (hcl : y.cls = r.1) (hd : zhd y n) (hn : As.length = n) (h0 : As.reverse ++ .ref b :: rest = st0) (hst : (rest.map fun v => v.category).sum ≤ 8) (hlv : lv + 1 ≤ lv0 ∧ 19 + maxL + 64 * lv ≤ 64 * lv0) (d : decode cc pc = .ok (.invokevirtual idx, 3))
    (h1 : v.toList ++ rest = st1) (kk : WL Z Q μ1 (pc + 3) L st1) : WL Z Q μ pc L st0 := by
  subst h0; subst h1; exact WL.call (fun H locs ls hR hS hl => va_runV (As := As) (rest := rest) ⟨C.ex, C.by_, C.ml, C.own, C.hts⟩ hM (cwV n C.hts hg rfl rfl rfl ⟨hcl, hd⟩ (C.room hlv)) ⟨RPU.blind, C.recv hR hc hk, fun U hU hW => ⟨rfl, C.pre hR hS hU hW⟩⟩ rfl hn hl.1 rfl (lv_room hst) d hS.room) kk
theorem r_callVN (C : CX Z y0 cc ret0 lv0 nl0) {As : List Value} {b ci idx lv maxL n : Nat} {r : vw_C} {y : MethodName} {bytes : ByteArray} {ret : Option FieldType} {v : Option Value} {host : String} (hc : zCl[ci]? = some r) (hk : ck μ ci b = some ()) (hM : MN Z.2.1 Z.2.2.2.2.2.2.2.2.2.2.1 Z.2.2.2.2.2.2.2.2.2.2.2.1 y (ws_ y bytes maxL ret) lv (.ref b :: As) μ v μ1)
    (q1 : Cond.methodLinkNest y0.cls idx y host ∈ lw_nst) (q2 : Cond.code y bytes maxL ret ∈ lw_all) (q3 : Cond.initialized y.cls ∈ lw_all) (q4 : Cond.instanceMethod y ∈ lw_all) (q5 : Cond.selects r.1 y y ∈ lw_all) (hd : zhd y n) (hn : As.length = n) (h0 : As.reverse ++ .ref b :: rest = st0) (hst : (rest.map fun v => v.category).sum ≤ 8) (hlv : lv + 1 ≤ lv0 ∧ 19 + maxL + 64 * lv ≤ 64 * lv0) (d : decode cc pc = .ok (.invokevirtual idx, 3))
    (h1 : v.toList ++ rest = st1) (kk : WL Z Q μ1 (pc + 3) L st1) : WL Z Q μ pc L st0 := by
  subst h0; subst h1; exact WL.call (fun H locs ls hR hS hl => va_runVN (As := As) (rest := rest) ⟨C.ex, C.by_, C.ml, C.own, C.hts⟩ hM ⟨va_cnB n C.hts (lw_meth q2) rfl rfl rfl (C.kt.2.1 _ q1) (C.hts _ q3) hd (C.room hlv), C.hts _ q4, C.hts _ q5⟩ ⟨RPU.blind, C.recv hR hc hk, fun U hU hW => ⟨rfl, C.pre hR hS hU hW⟩⟩ rfl hn hl.1 rfl (lv_room hst) d hS.room) kk
theorem r_callS (C : CX Z y0 cc ret0 lv0 nl0) {As : List Value} {idx lv maxL n : Nat} {y : MethodName} {bytes : ByteArray} {ret : Option FieldType} {v : Option Value} (hM : MN Z.2.1 Z.2.2.2.2.2.2.2.2.2.2.1 Z.2.2.2.2.2.2.2.2.2.2.2.1 y (ws_ y bytes maxL ret) lv As μ v μ1)
    (hg : GoodIn lw_all (va_wsS y0.cls idx y (ws_ y bytes maxL ret))) (hd : zhd y n) (hn : As.length = n) (h0 : As.reverse ++ rest = st0) (hst : (rest.map fun v => v.category).sum ≤ 8) (hlv : lv + 1 ≤ lv0 ∧ 19 + maxL + 64 * lv ≤ 64 * lv0) (d : decode cc pc = .ok (.invokestatic idx, 3))
    (h1 : v.toList ++ rest = st1) (kk : WL Z Q μ1 (pc + 3) L st1) : WL Z Q μ pc L st0 := by
  subst h0; subst h1; exact WL.call (fun H locs ls hR hS hl => va_runS (As := As) (rest := rest) ⟨C.ex, C.by_, C.ml, C.own, C.hts⟩ hM (va_cwS n C.hts hg rfl rfl rfl hd (C.room hlv)) ⟨RPU.blind, fun U hU hW => ⟨rfl, C.pre hR hS hU hW⟩⟩ rfl hn hl.1 rfl (lv_room hst) d hS.room) kk
theorem r_callI (C : CX Z y0 cc ret0 lv0 nl0) {As : List Value} {b idx lv maxL n : Nat} {y : MethodName} {bytes : ByteArray} {v : Option Value} (hM : MN Z.2.1 Z.2.2.2.2.2.2.2.2.2.2.1 Z.2.2.2.2.2.2.2.2.2.2.2.1 y (ws_ y bytes maxL none) lv (.ref b :: As) μ v μ1)
    (q1 : Cond.methodLink y0.cls idx y ∈ lw_all) (q2 : Cond.code y bytes maxL none ∈ lw_all) (q3 : Cond.initialized y.cls ∈ lw_all) (q4 : Cond.instanceMethod y ∈ lw_all) (hi : y.name = "<init>") (hd : zhd y n) (hn : As.length = n) (h0 : As.reverse ++ .ref b :: rest = st0) (hst : (rest.map fun v => v.category).sum ≤ 8) (hlv : lv + 1 ≤ lv0 ∧ 19 + maxL + 64 * lv ≤ 64 * lv0) (d : decode cc pc = .ok (.invokespecial idx, 3))
    (h1 : v.toList ++ rest = st1) (kk : WL Z Q μ1 (pc + 3) L st1) : WL Z Q μ pc L st0 := by
  subst h0; subst h1; exact WL.call (fun H locs ls hR hS hl => va_runI (As := As) (rest := rest) ⟨C.ex, C.by_, C.ml, C.own, C.hts⟩ hM (cwI n C.hts (lw_meth q2) rfl rfl rfl (C.hts _ q3) (C.hts _ q1) (C.hts _ q4) hi hd (C.room hlv)) ⟨RPU.blind, fun U hU hW => ⟨rfl, C.pre hR hS hU hW⟩⟩ rfl hn hl.1 rfl (lv_room hst) d hS.room) kk
theorem r_callIN (C : CX Z y0 cc ret0 lv0 nl0) {As : List Value} {b idx lv maxL n : Nat} {y : MethodName} {bytes : ByteArray} {v : Option Value} {host : String} (hM : MN Z.2.1 Z.2.2.2.2.2.2.2.2.2.2.1 Z.2.2.2.2.2.2.2.2.2.2.2.1 y (ws_ y bytes maxL none) lv (.ref b :: As) μ v μ1)
    (q1 : Cond.methodLinkNest y0.cls idx y host ∈ lw_nst) (q2 : Cond.code y bytes maxL none ∈ lw_all) (q3 : Cond.initialized y.cls ∈ lw_all) (q4 : Cond.instanceMethod y ∈ lw_all) (hi : y.name = "<init>") (hd : zhd y n) (hn : As.length = n) (h0 : As.reverse ++ .ref b :: rest = st0) (hst : (rest.map fun v => v.category).sum ≤ 8) (hlv : lv + 1 ≤ lv0 ∧ 19 + maxL + 64 * lv ≤ 64 * lv0) (d : decode cc pc = .ok (.invokespecial idx, 3))
    (h1 : v.toList ++ rest = st1) (kk : WL Z Q μ1 (pc + 3) L st1) : WL Z Q μ pc L st0 := by
  subst h0; subst h1; exact WL.call (fun H locs ls hR hS hl => va_runIN (As := As) (rest := rest) ⟨C.ex, C.by_, C.ml, C.own, C.hts⟩ hM ⟨va_cnB n C.hts (lw_meth q2) rfl rfl rfl (C.kt.2.1 _ q1) (C.hts _ q3) hd (C.room hlv), hi, C.hts _ q4⟩ ⟨RPU.blind, fun U hU hW => ⟨rfl, C.pre hR hS hU hW⟩⟩ rfl hn hl.1 rfl (lv_room hst) d hS.room) kk
end Calls9

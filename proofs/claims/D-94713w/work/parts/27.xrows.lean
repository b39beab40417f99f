/-! methods that throw -/
set_option maxRecDepth 100000
def XcN (D : va_G) (b0 kc ks : Nat) (o : (Nat × Nat) ⊕ Option Value) (μ1 : Me) : Array Value → State → Outcome → State → Prop := fun _ st oc t => ∃ v, o = .inr v ∧ oc = .returned v ∧ QcM D b0 kc ks μ1 st t
def XcX (D : va_G) (b0 kc ks : Nat) (o : (Nat × Nat) ⊕ Option Value) (μ1 : Me) : Addr → String → State → State → Prop := fun q E st t => ∃ k, o = .inl (k, q) ∧ E = exn k ∧ QcM D b0 kc ks μ1 st t
/-- a contract that returns or throws -/
def XN (l : Launch) (D : va_G) (b0 : Nat) (y : MethodName) (ws : List Cond) (lv : Nat) (As : List Value) (μ : Me) (o : (Nat × Nat) ⊕ Option Value) (μ1 : Me) : Prop :=
  xq_Met l y ws (rmv lv μ) (va_Pc As (RPU D b0 μ)) (XcN D b0 μ.1.1.2.1 μ.1.1.2.2 o μ1) (XcX D b0 μ.1.1.2.1 μ.1.1.2.2 o μ1) μ.1.1.2.1 μ.1.1.2.2 (fun q => b0 ≤ q)
def XQ (Z : Zt) (o : (Nat × Nat) ⊕ Option Value) (μ1 : Me) : State → Prop :=
  xq_MQ Z.2.2.2.2.2.2.2.1 (XcN Z.2.2.2.2.2.2.2.2.2.2.1 Z.2.2.2.2.2.2.2.2.2.2.2.1 Z.2.2.2.1.cells Z.2.2.2.1.slots o μ1) (XcX Z.2.2.2.2.2.2.2.2.2.2.1 Z.2.2.2.2.2.2.2.2.2.2.2.1 Z.2.2.2.1.cells Z.2.2.2.1.slots o μ1) Z.2.2.2.2.2.2.1 Z.2.2.2.2.1 Z.2.2.2.1.cells Z.2.2.2.1.slots (fun q => Z.2.2.2.2.2.2.2.2.2.2.2.1 ≤ q)
abbrev Ex : Type := Nat × Nat × Me
def zoI (w : Ex ⊕ (Int × Me)) : (Nat × Nat) ⊕ Option Value := match w with
  | .inl e => .inl (e.1, e.2.1)
  | .inr r => .inr (some (vI r.1))
def zoJ (w : Ex ⊕ (Int × Me)) : (Nat × Nat) ⊕ Option Value := match w with
  | .inl e => .inl (e.1, e.2.1)
  | .inr r => .inr (some (vJ r.1))
def zoA (w : Ex ⊕ (Nat × Me)) : (Nat × Nat) ⊕ Option Value := match w with
  | .inl e => .inl (e.1, e.2.1)
  | .inr r => .inr (some (vO r.1))
def zoV (w : Ex ⊕ Me) : (Nat × Nat) ⊕ Option Value := match w with
  | .inl e => .inl (e.1, e.2.1)
  | .inr _ => .inr none
def zmI {α : Type} (w : Ex ⊕ (α × Me)) : Me := match w with
  | .inl e => e.2.2
  | .inr r => r.2
def zmV (w : Ex ⊕ Me) : Me := match w with
  | .inl e => e.2.2
  | .inr r => r
/-- an exception or a value -/
def xb {α β : Type} (x : Option (Ex ⊕ α)) (g : Ex → Option β) (f : α → Option β) : Option β := x.bind fun w => match w with
  | .inl e => g e
  | .inr v => f v
theorem xbs {α β : Type} {x : Option (Ex ⊕ α)} {g : Ex → Option β} {f : α → Option β} {w : β} (h : xb x g f = some w) : (∃ e, x = some (.inl e) ∧ g e = some w) ∨ ∃ v, x = some (.inr v) ∧ f v = some w := by
  obtain ⟨z, h1, h2⟩ := bs h
  cases z with
  | inl e => exact Or.inl ⟨e, h1, h2⟩
  | inr v => exact Or.inr ⟨v, h1, h2⟩
/-- a fresh exception -/
def tE (μ : Me) (k : Nat) : Option Ex := (nC μ 99 0 6).bind fun q => some (k, q.1, q.2)
def XE (Z : Zt) : Prop := ∀ x ∈ Z.2.2.2.2.2.2.2.2.2.1.exceptionTable.toList, False
def XT (Z : Zt) (hh : List (Nat × Nat × Nat × Nat)) : Prop := Z.2.2.2.2.2.2.2.2.2.1.exceptionTable.toList = tableOf hh
/-- an exception is under way -/
def WX (Z : Zt) (Q : State → Prop) (μ : Me) (pc : Nat) (L : List (Nat × Value)) (k q : Nat) : Prop :=
  ∀ (H : Heap) (locs : List Loc) (ls : Array Slot) (rest : List Value) (ce : Cell), RP Z.2.2.2.2.2.2.2.2.2.2.1 Z.2.2.2.2.2.2.2.2.2.2.2.1 μ H → SS Z.2.2.2.2.2.2.2.2.2.2.2.1 Z.2.2.2.2.1.heap Z.2.2.2.1 μ H locs → lv_has ls Z.2.2.2.2.2.2.2.2.2.2.2.2 L →
    H[q]? = some ce → ce.vm = .none → Z.2.2.2.2.1.vm.findClass (exn k) = some ce.cls →
    vx_W Z.1 Z.2.1 Z.2.2.1 Z.2.2.2.1 Z.2.2.2.2.1 Z.2.2.2.2.2.1 Z.2.2.2.2.2.2.1 Z.2.2.2.2.2.2.2.1 Z.2.2.2.2.2.2.2.2.1 Z.2.2.2.2.2.2.2.2.2.1 H locs (H.size - Z.2.2.2.2.1.heap.size) (nsl Z.2.2.2.2.1.heap.size H) Q (F0 Z.2.2.2.2.2.1 pc ls rest) q
section XR
variable {Z : Zt} {Q : State → Prop} {μ μ1 : Me} {pc : Nat} {L : List (Nat × Value)} {st : List Value} {y : MethodName} {cc : ByteArray} {ret : Option FieldType} {lv nl : Nat}
theorem SS.finM {b0 : Nat} {s t : State} {R : Room} {H : Heap} {locs : List Loc} {D : va_G} (h : SS b0 s.heap R μ H locs) (hR : RP D b0 μ H) (ht : t.heap = H) : QcM D b0 R.cells R.slots μ s t := by
  subst ht
  exact ⟨hR, h.1.F rfl, h.2.1, h.2.2.1, h.2.2.2⟩
theorem XN.of {l : Launch} {D : va_G} {b0 : Nat} {y : MethodName} {bytes : ByteArray} {maxL : Nat} {ret : Option FieldType} {lv : Nat} {As : List Value} {μ : Me} {o : (Nat × Nat) ⊕ Option Value} {μ1 : Me} (hl : l.stackTraces = false) (hy : plainName y.cls = true) (hn : (lg_sl As).length ≤ maxL)
    (body : ∀ Z : Zt, CX Z y bytes ret lv maxL → XE Z → Z.2.1 = l → Z.2.2.2.2.2.2.2.2.2.2 = (D, b0, maxL) → WL Z (XQ Z o μ1) μ 0 (lv_args 0 As) []) : XN l D b0 y (ws_ y bytes maxL ret) lv As μ o μ1 := by
  refine xq_ofW (cc := bytes) (maxL := maxL) (ret := ret) hy rfl ?_
  intro p e s m args below meth c s₁ B hml hno hv
  obtain ⟨rfl, hR, hK, hZ, hb0⟩ := hv
  have hts := atoms_spec (ws := ws_ y bytes maxL ret) B.pre
  have hts : ∀ w ∈ lw_all, w.before As.toArray s = true := fun w h => hts w (List.mem_cons_of_mem _ h)
  have C : CX (p, l, e, rmv lv μ, s, m, As.toArray, below, meth, c, D, b0, maxL) y bytes ret lv maxL :=
    ⟨B.exec, B.bytes, B.returns, hml, findClass_of_methodNamed B.named, hts, B.notSynchronized, (name_of_methodNamed B.named B.method).1, hK, hZ, hb0, hl, Nat.le_refl _, Nat.le_refl _, rfl⟩
  have h := body _ C hno rfl rfl
  rw [lg_entry_eq]
  have hlv := lv_entry As (n := maxL) hn
  have h9 := h s.heap [] _ hR ⟨va_S.rf, fun _ _ => rfl, Nat.le_refl _, by rw [nsl_self]; exact Nat.le_of_eq (Nat.zero_add _)⟩ hlv
  exact W.exact h9
theorem XN.ofH {l : Launch} {D : va_G} {b0 : Nat} {y : MethodName} {bytes : ByteArray} {maxL : Nat} {ret : Option FieldType} {hh : List (Nat × Nat × Nat × Nat)} {lv : Nat} {As : List Value} {μ : Me} {o : (Nat × Nat) ⊕ Option Value} {μ1 : Me} (hl : l.stackTraces = false) (hy : plainName y.cls = true) (hn : (lg_sl As).length ≤ maxL)
    (body : ∀ Z : Zt, CX Z y bytes ret lv maxL → XT Z hh → Z.2.1 = l → Z.2.2.2.2.2.2.2.2.2.2 = (D, b0, maxL) → WL Z (XQ Z o μ1) μ 0 (lv_args 0 As) []) : XN l D b0 y (wsW_ y bytes maxL ret hh) lv As μ o μ1 := by
  refine xq_ofWH (cc := bytes) (maxL := maxL) (ret := ret) (hh := hh) hy rfl ?_
  intro p e s m args below meth c s₁ B hml hv
  obtain ⟨rfl, hR, hK, hZ, hb0⟩ := hv
  have hts0 := atoms_spec (ws := wsW_ y bytes maxL ret hh) B.pre
  have hts : ∀ w ∈ lw_all, w.before As.toArray s = true := fun w h => hts0 w (List.mem_cons_of_mem _ h)
  have C : CX (p, l, e, rmv lv μ, s, m, As.toArray, below, meth, c, D, b0, maxL) y bytes ret lv maxL :=
    ⟨B.exec, B.bytes, B.returns, hml, findClass_of_methodNamed B.named, hts, B.notSynchronized, (name_of_methodNamed B.named B.method).1, hK, hZ, hb0, hl, Nat.le_refl _, Nat.le_refl _, rfl⟩
  have h := body _ C (vx_table (x := y) B (hts0 _ List.mem_cons_self)) rfl rfl
  rw [lg_entry_eq]
  have hlv := lv_entry As (n := maxL) hn
  have h9 := h s.heap [] _ hR ⟨va_S.rf, fun _ _ => rfl, Nat.le_refl _, by rw [nsl_self]; exact Nat.le_of_eq (Nat.zero_add _)⟩ hlv
  exact W.exact h9
/-- what stands behind a call -/
theorem SS.behind {b0 : Nat} {H0 : Heap} {R : Room} {D : va_G} {st₀ t : State} {locs L' : List Loc} {μ1 : Me} (hS : SS b0 H0 R μ st₀.heap locs) (hL : ∀ z ∈ L', b0 ≤ z.base) (hQ : QcM D b0 μ.1.1.2.1 μ.1.1.2.2 μ1 st₀ t) : SS b0 H0 R μ1 t.heap (locs ++ L') := by
  obtain ⟨q2, q3, q4, q5, q6⟩ := hQ
  obtain ⟨s1, s2, s3, s4⟩ := hS
  have z1 : H0.size ≤ st₀.heap.size := s1.1
  have z2 : st₀.heap.size ≤ t.heap.size := q3.1
  refine ⟨⟨Nat.le_trans z1 z2, fun q h1 h2 => ?_, fun q hq => ?_⟩, fun q hq => ?_, ?_, ?_⟩
  · rw [q3.2 q (Nat.lt_of_lt_of_le h1 z1) h2]
    exact s1.2.1 q h1 h2
  · rcases List.mem_append.mp hq with h | h
    · exact s1.2.2 q h
    · exact hL q h
  · rw [q4 q (Nat.lt_of_lt_of_le hq z1)]
    exact s2 q hq
  · omega
  · rw [nsl_call z1 q4]
    omega
abbrev xRun (Z : Zt) (μ μ1 : Me) (o : (Nat × Nat) ⊕ Option Value) (pc : Nat) (L : List (Nat × Value)) (st0 rest : List Value) (As : Array Value) : Prop :=
  ∀ (H : Heap) (locs : List Loc) (ls : Array Slot), RP Z.2.2.2.2.2.2.2.2.2.2.1 Z.2.2.2.2.2.2.2.2.2.2.2.1 μ H → SS Z.2.2.2.2.2.2.2.2.2.2.2.1 Z.2.2.2.2.1.heap Z.2.2.2.1 μ H locs → lv_has ls Z.2.2.2.2.2.2.2.2.2.2.2.2 L →
    xq_Run Z.1 Z.2.1 Z.2.2.1 Z.2.2.2.1 Z.2.2.2.2.1 Z.2.2.2.2.2.1 Z.2.2.2.2.2.2.1 Z.2.2.2.2.2.2.2.1 Z.2.2.2.2.2.2.2.2.1 Z.2.2.2.2.2.2.2.2.2.1 H locs (H.size - Z.2.2.2.2.1.heap.size) (nsl Z.2.2.2.2.1.heap.size H) μ.1.1.2.1 μ.1.1.2.2 (F0 Z.2.2.2.2.2.1 pc ls st0) rest (XcN Z.2.2.2.2.2.2.2.2.2.2.1 Z.2.2.2.2.2.2.2.2.2.2.2.1 μ.1.1.2.1 μ.1.1.2.2 o μ1 As) (XcX Z.2.2.2.2.2.2.2.2.2.2.1 Z.2.2.2.2.2.2.2.2.2.2.2.1 μ.1.1.2.1 μ.1.1.2.2 o μ1) (fun q => Z.2.2.2.2.2.2.2.2.2.2.2.1 ≤ q)
theorem WL.xcallN {v : Option Value} {st0 rest : List Value} {As : Array Value} (hr : xRun Z μ μ1 (.inr v) pc L st0 rest As) (kk : WL Z Q μ1 (pc + 3) L (v.toList ++ rest)) : WL Z Q μ pc L st0 := by
  intro H locs ls hR hS hl T hT X
  rcases hr H locs ls hR hS hl T hT X with ⟨v', st₀, t, T', L', h0, X', hL, e1, e2, ⟨v2, q0, q1, hq⟩, st⟩ | ⟨q, st₀, t, T', L', E, ce, h0, X', hL, e1, e2, ⟨k, q0, -⟩, -⟩
  · cases q0
    cases q1
    subst h0
    obtain ⟨t2, a1, b1⟩ := W.exact (kk t.heap (locs ++ L') ls hq.1 (hS.behind hL hq) hl) T' e1 X'
    exact ⟨t2, st t2 a1, b1⟩
  · cases q0
theorem vx_Wexact {p : Program} {l : Launch} {e : Env} {R : Room} {s : State} {m : MethodId} {args : Array Value} {below : List Frame} {meth : Method} {c : Code} {H : Heap} {locs : List Loc} {cells slots : Nat} {Q : State → Prop} {g : JFrame} {q : Addr}
    (k : vx_W p l e R s m args below meth c H locs (H.size - s.heap.size) (nsl s.heap.size H) Q g q) : vx_W p l e R s m args below meth c H locs cells slots Q g q := by
  intro T hT X
  have Y := stand_exact X
  rw [hT] at Y
  exact k T hT Y
theorem WL.xcallX {k q : Nat} {st0 rest : List Value} {As : Array Value} (hr : xRun Z μ μ1 (.inl (k, q)) pc L st0 rest As) (kx : WX Z Q μ1 pc L k q) : WL Z Q μ pc L st0 := by
  intro H locs ls hR hS hl T hT X
  rcases hr H locs ls hR hS hl T hT X with ⟨v', st₀, t, T', L', h0, X', hL, e1, e2, ⟨v2, q0, q1, hq⟩, st⟩ | ⟨q', st₀, t, T', L', E, ce, h0, X', hL, e1, e2, ⟨k', q0, q1, hq⟩, c1, c2, c3, st⟩
  · cases q0
  · cases q0
    subst q1
    subst h0
    obtain ⟨t2, a1, b1⟩ := vx_Wexact (kx t.heap (locs ++ L') ls rest ce hq.1 (hS.behind hL hq) hl c1 c2 c3) T' e1 X'
    exact ⟨t2, st.trans a1, b1⟩
section XC9
variable {st0 st1 rest : List Value} {y0 : MethodName} {ret0 : Option FieldType} {lv0 nl0 : Nat}
theorem xrunV (C : CX Z y0 cc ret0 lv0 nl0) {As : List Value} {b ci idx lv maxL n : Nat} {r : vw_C} {y : MethodName} {bytes : ByteArray} {ret : Option FieldType} {o : (Nat × Nat) ⊕ Option Value} (hc : zCl[ci]? = some r) (hk : ck μ ci b = some ()) (hM : XN Z.2.1 Z.2.2.2.2.2.2.2.2.2.2.1 Z.2.2.2.2.2.2.2.2.2.2.2.1 y (ws_ y bytes maxL ret) lv (.ref b :: As) μ o μ1)
    (hg : GoodIn lw_all (wsV y0.cls idx r.1 y (ws_ y bytes maxL ret))) (hcl : y.cls = r.1) (hd : zhd y n) (hn : As.length = n) (hst : (rest.map fun v => v.category).sum ≤ 8) (hlv : lv + 1 ≤ lv0 ∧ 19 + maxL + 64 * lv ≤ 64 * lv0) (d : decode cc pc = .ok (.invokevirtual idx, 3)) : xRun Z μ μ1 o pc L (As.reverse ++ .ref b :: rest) rest (Value.ref b :: As).toArray :=
  fun H locs ls hR hS hl => xq_runV (As := As) (rest := rest) ⟨C.ex, C.by_, C.ml, C.own, C.hts⟩ hM (cwV n C.hts hg rfl rfl rfl ⟨hcl, hd⟩ (C.room hlv)) ⟨RPU.blind, C.recv hR hc hk, fun U hU hW => ⟨rfl, C.pre hR hS hU hW⟩⟩ rfl hn hl.1 rfl (lv_room hst) d hS.room
theorem r_xV (C : CX Z y0 cc ret0 lv0 nl0) {As : List Value} {b ci idx lv maxL n : Nat} {r : vw_C} {y : MethodName} {bytes : ByteArray} {ret : Option FieldType} {v : Option Value} (hc : zCl[ci]? = some r) (hk : ck μ ci b = some ()) (hM : XN Z.2.1 Z.2.2.2.2.2.2.2.2.2.2.1 Z.2.2.2.2.2.2.2.2.2.2.2.1 y (ws_ y bytes maxL ret) lv (.ref b :: As) μ (.inr v) μ1)
    (hg : GoodIn lw_all (wsV y0.cls idx r.1 y (ws_ y bytes maxL ret))) (hcl : y.cls = r.1) (hd : zhd y n) (hn : As.length = n) (h0 : As.reverse ++ .ref b :: rest = st0) (hst : (rest.map fun v => v.category).sum ≤ 8) (hlv : lv + 1 ≤ lv0 ∧ 19 + maxL + 64 * lv ≤ 64 * lv0) (d : decode cc pc = .ok (.invokevirtual idx, 3))
    (h1 : v.toList ++ rest = st1) (kk : WL Z Q μ1 (pc + 3) L st1) : WL Z Q μ pc L st0 := by
  subst h0; subst h1; exact WL.xcallN (xrunV C hc hk hM hg hcl hd hn hst hlv d) kk
theorem r_xVx (C : CX Z y0 cc ret0 lv0 nl0) {As : List Value} {b ci idx lv maxL n k q : Nat} {r : vw_C} {y : MethodName} {bytes : ByteArray} {ret : Option FieldType} (hc : zCl[ci]? = some r) (hk : ck μ ci b = some ()) (hM : XN Z.2.1 Z.2.2.2.2.2.2.2.2.2.2.1 Z.2.2.2.2.2.2.2.2.2.2.2.1 y (ws_ y bytes maxL ret) lv (.ref b :: As) μ (.inl (k, q)) μ1)
    (hg : GoodIn lw_all (wsV y0.cls idx r.1 y (ws_ y bytes maxL ret))) (hcl : y.cls = r.1) (hd : zhd y n) (hn : As.length = n) (h0 : As.reverse ++ .ref b :: rest = st0) (hst : (rest.map fun v => v.category).sum ≤ 8) (hlv : lv + 1 ≤ lv0 ∧ 19 + maxL + 64 * lv ≤ 64 * lv0) (d : decode cc pc = .ok (.invokevirtual idx, 3))
    (kx : WX Z Q μ1 pc L k q) : WL Z Q μ pc L st0 := by
  subst h0; exact WL.xcallX (xrunV C hc hk hM hg hcl hd hn hst hlv d) kx
theorem xrunS (C : CX Z y0 cc ret0 lv0 nl0) {As : List Value} {idx lv maxL n : Nat} {y : MethodName} {bytes : ByteArray} {ret : Option FieldType} {o : (Nat × Nat) ⊕ Option Value} (hM : XN Z.2.1 Z.2.2.2.2.2.2.2.2.2.2.1 Z.2.2.2.2.2.2.2.2.2.2.2.1 y (ws_ y bytes maxL ret) lv As μ o μ1)
    (hg : GoodIn lw_all (va_wsS y0.cls idx y (ws_ y bytes maxL ret))) (hd : zhd y n) (hn : As.length = n) (hst : (rest.map fun v => v.category).sum ≤ 8) (hlv : lv + 1 ≤ lv0 ∧ 19 + maxL + 64 * lv ≤ 64 * lv0) (d : decode cc pc = .ok (.invokestatic idx, 3)) : xRun Z μ μ1 o pc L (As.reverse ++ rest) rest As.toArray :=
  fun H locs ls hR hS hl => xq_runS (As := As) (rest := rest) ⟨C.ex, C.by_, C.ml, C.own, C.hts⟩ hM (va_cwS n C.hts hg rfl rfl rfl hd (C.room hlv)) ⟨RPU.blind, fun U hU hW => ⟨rfl, C.pre hR hS hU hW⟩⟩ rfl hn hl.1 rfl (lv_room hst) d hS.room
theorem r_xS (C : CX Z y0 cc ret0 lv0 nl0) {As : List Value} {idx lv maxL n : Nat} {y : MethodName} {bytes : ByteArray} {ret : Option FieldType} {v : Option Value} (hM : XN Z.2.1 Z.2.2.2.2.2.2.2.2.2.2.1 Z.2.2.2.2.2.2.2.2.2.2.2.1 y (ws_ y bytes maxL ret) lv As μ (.inr v) μ1)
    (hg : GoodIn lw_all (va_wsS y0.cls idx y (ws_ y bytes maxL ret))) (hd : zhd y n) (hn : As.length = n) (h0 : As.reverse ++ rest = st0) (hst : (rest.map fun v => v.category).sum ≤ 8) (hlv : lv + 1 ≤ lv0 ∧ 19 + maxL + 64 * lv ≤ 64 * lv0) (d : decode cc pc = .ok (.invokestatic idx, 3))
    (h1 : v.toList ++ rest = st1) (kk : WL Z Q μ1 (pc + 3) L st1) : WL Z Q μ pc L st0 := by
  subst h0; subst h1; exact WL.xcallN (xrunS C hM hg hd hn hst hlv d) kk
theorem r_xSx (C : CX Z y0 cc ret0 lv0 nl0) {As : List Value} {idx lv maxL n k q : Nat} {y : MethodName} {bytes : ByteArray} {ret : Option FieldType} (hM : XN Z.2.1 Z.2.2.2.2.2.2.2.2.2.2.1 Z.2.2.2.2.2.2.2.2.2.2.2.1 y (ws_ y bytes maxL ret) lv As μ (.inl (k, q)) μ1)
    (hg : GoodIn lw_all (va_wsS y0.cls idx y (ws_ y bytes maxL ret))) (hd : zhd y n) (hn : As.length = n) (h0 : As.reverse ++ rest = st0) (hst : (rest.map fun v => v.category).sum ≤ 8) (hlv : lv + 1 ≤ lv0 ∧ 19 + maxL + 64 * lv ≤ 64 * lv0) (d : decode cc pc = .ok (.invokestatic idx, 3))
    (kx : WX Z Q μ1 pc L k q) : WL Z Q μ pc L st0 := by
  subst h0; exact WL.xcallX (xrunS C hM hg hd hn hst hlv d) kx
end XC9
/-- an exception leaves the method -/
theorem r_xout (C : CX Z y cc ret lv nl) (X : ∀ x ∈ Z.2.2.2.2.2.2.2.2.2.1.exceptionTable.toList, covers x pc = false) {k q : Nat} : WX Z (XQ Z (.inl (k, q)) μ) μ pc L k q := by
  intro H locs ls rest ce hR hS hl c1 c2 c3
  exact xq_out X C.lk c1 c2 c3 (fun t ht _ => ⟨k, rfl, rfl, hS.finM hR ht⟩) hS.1.2.2 hS.ca hS.sa
theorem XE.out (X : XE Z) {pc : Nat} : ∀ x ∈ Z.2.2.2.2.2.2.2.2.2.1.exceptionTable.toList, covers x pc = false := fun x hx => absurd hx (X x)
theorem r_xoutI (C : CX Z y cc ret lv nl) (X : XE Z) {w : Ex ⊕ (Int × Me)} {e : Ex} (hw : .inl e = w) : WX Z (XQ Z (zoI w) (zmI w)) e.2.2 pc L e.1 e.2.1 := by subst hw; exact r_xout C X.out
theorem r_xoutJ (C : CX Z y cc ret lv nl) (X : XE Z) {w : Ex ⊕ (Int × Me)} {e : Ex} (hw : .inl e = w) : WX Z (XQ Z (zoJ w) (zmI w)) e.2.2 pc L e.1 e.2.1 := by subst hw; exact r_xout C X.out
theorem r_xoutA (C : CX Z y cc ret lv nl) (X : XE Z) {w : Ex ⊕ (Nat × Me)} {e : Ex} (hw : .inl e = w) : WX Z (XQ Z (zoA w) (zmI w)) e.2.2 pc L e.1 e.2.1 := by subst hw; exact r_xout C X.out
theorem r_xoutV (C : CX Z y cc ret lv nl) (X : XE Z) {w : Ex ⊕ Me} {e : Ex} (hw : .inl e = w) : WX Z (XQ Z (zoV w) (zmV w)) e.2.2 pc L e.1 e.2.1 := by subst hw; exact r_xout C X.out
-- ends
theorem r_xiret (C : CX Z y cc (some .int) lv nl) {x : Int} {w : Ex ⊕ (Int × Me)} (hw : .inr (x, μ) = w) (d : decode cc pc = .ok (.ireturn, 1)) : WL Z (XQ Z (zoI w) (zmI w)) μ pc L [vI x] := by
  subst hw
  intro H locs ls hR hS hl
  exact W.widen hS.ca hS.sa (xq_ret (W.iret C.ex C.by_ C.rt (fun t ht _ => ⟨_, rfl, rfl, hS.finM hR ht⟩) hS.1.2.2 d C.lk))
theorem r_xzret (C : CX Z y cc (some .boolean) lv nl) {x : Int} {w : Ex ⊕ (Int × Me)} (hz : x = 0 ∨ x = 1) (hw : .inr (x, μ) = w) (d : decode cc pc = .ok (.ireturn, 1)) : WL Z (XQ Z (zoI w) (zmI w)) μ pc L [vI x] := by
  subst hw
  intro H locs ls hR hS hl
  exact W.widen hS.ca hS.sa (xq_ret (W.zret C.ex C.by_ C.rt (z_narB hz) (fun t ht _ => ⟨_, rfl, rfl, hS.finM hR ht⟩) hS.1.2.2 d C.lk))
theorem r_xlret (C : CX Z y cc (some .long) lv nl) {x : Int} {w : Ex ⊕ (Int × Me)} (hw : .inr (x, μ) = w) (d : decode cc pc = .ok (.lreturn, 1)) : WL Z (XQ Z (zoJ w) (zmI w)) μ pc L [vJ x] := by
  subst hw
  intro H locs ls hR hS hl
  exact W.widen hS.ca hS.sa (xq_ret (W.lret C.ex C.by_ C.rt (fun t ht _ => ⟨_, rfl, rfl, hS.finM hR ht⟩) hS.1.2.2 d C.lk))
theorem r_xaret {rt : FieldType} (C : CX Z y cc (some rt) lv nl) {x : Nat} {w : Ex ⊕ (Nat × Me)} (hrt : (∃ n, rt = .object n) ∨ ∃ t, rt = .array t) (hw : .inr (x, μ) = w) (d : decode cc pc = .ok (.areturn, 1)) : WL Z (XQ Z (zoA w) (zmI w)) μ pc L [vO x] := by
  subst hw
  intro H locs ls hR hS hl
  exact W.widen hS.ca hS.sa (xq_ret (W.aret C.ex C.by_ C.rt hrt (Or.inr ⟨_, rfl⟩) (fun t ht _ => ⟨_, rfl, rfl, hS.finM hR ht⟩) hS.1.2.2 d C.lk))
theorem r_xvret (C : CX Z y cc none lv nl) {w : Ex ⊕ Me} (hw : .inr μ = w) (d : decode cc pc = .ok (.return_, 1)) : WL Z (XQ Z (zoV w) (zmV w)) μ pc L [] := by
  subst hw
  intro H locs ls hR hS hl
  exact W.widen hS.ca hS.sa (xq_ret (W.vret C.ex C.by_ C.rt (fun t ht _ => ⟨_, rfl, rfl, hS.finM hR ht⟩) hS.1.2.2 d C.lk))
/-- 'throw e' of a Wrong -/
theorem r_athrow (C : CX Z y cc ret lv nl) {q : Nat} (hk : ck μ 3 q = some ()) (d : decode cc pc = .ok (.athrow, 1)) (k : WX Z Q μ pc L 5 q) : WL Z Q μ pc L (vO q :: st) := by
  intro H locs ls hR hS hl
  obtain ⟨cell, h1, h2, h3, -⟩ := (hR.2.1 q).1 3 (RX5, TX5, 7) rfl (ck_ok hk)
  exact vx_athrow C.ex C.by_ d (k H locs ls st cell hR hS hl h1 h3 (by rw [h2]; exact (C.kt.1.1 3 (RX5, TX5, 7) rfl).2.1))
end XR

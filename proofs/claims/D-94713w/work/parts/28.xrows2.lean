/-! throwing, catching, calls of methods with handlers -/
set_option maxRecDepth 100000
abbrev nm9 : List String := ["java/lang/RuntimeException", "java/lang/Exception"]
theorem lw_pl (ws : List Cond) (ps : List Nat) (hp : ws = ps.filterMap (fun i => lw_tbl[i]?)) (hg : ws.all (fun w => goodWord w || zNest w) = true) : ∀ w ∈ ws, w ∈ lw_tbl ∧ (goodWord w || zNest w) = true := by
  intro w h
  refine ⟨?_, List.all_eq_true.mp hg w h⟩
  rw [hp] at h
  obtain ⟨i, -, hi⟩ := List.mem_filterMap.mp h
  exact List.mem_of_getElem? hi
section XR2
variable {Z : Zt} {Q : State → Prop} {μ μ1 : Me} {pc : Nat} {L : List (Nat × Value)} {st : List Value} {y : MethodName} {cc : ByteArray} {ret : Option FieldType} {lv nl : Nat}
theorem CX.gn (C : CX Z y cc ret lv nl) {w : Cond} (h : w ∈ lw_tbl ∧ (goodWord w || zNest w) = true) : w.before Z.2.2.2.2.2.2.1 Z.2.2.2.2.1 = true ∧ vx_ot w = true := by
  obtain ⟨h1, h2⟩ := h
  by_cases hg : goodWord w = true
  · exact ⟨C.hts w (lw_g h1 hg), by unfold vx_ot; rw [hg, Bool.or_true]⟩
  · have hz : zNest w = true := by
      cases e : goodWord w
      · rw [e] at h2; exact h2
      · exact absurd e hg
    exact ⟨C.nst (lw_n h1 hz), by unfold vx_ot; cases w <;> first | rfl | cases hz⟩
theorem exc_ok {D : va_G} {b0 : Nat} {s t : State} {H : Heap} {R : Room} {locs : List Loc} {q : Nat × Me} (hR : RP D b0 μ H) (hS : SS b0 s.heap R μ H locs) (h : nC μ 99 0 6 = some q) (h1 : t.heap.size = H.size + 1) (h2 : ((t.heap.toList.drop H.size).map (·.slots.size)).sum ≤ 6) (h3 : ∀ q : Nat, q < H.size → t.heap[q]? = H[q]?) :
    q.1 = H.size ∧ QcM D b0 R.cells R.slots q.2 s t := by
  obtain ⟨⟨g1, g2⟩, e⟩ := ib_ h
  subst e
  obtain ⟨s1, s2, s3, s4⟩ := hS
  have hz := s1.1
  have hnx : H.size = μ.1.1.1 := hR.1
  have h4 : nsl H.size t.heap ≤ 6 := by unfold nsl; rw [← List.map_drop]; exact h2
  refine ⟨hnx.symm, ⟨by rw [h1, hnx], fun a => ?_, fun a h9 => ?_⟩, ⟨by omega, fun q k1 k2 => ?_⟩, fun q k => ?_, ?_, ?_⟩
  · by_cases e : a = μ.1.1.1
    · subst e
      refine ⟨fun c r hc ht => ?_, fun t' l1 l2 ht => ?_⟩
      · have ht : up1 μ.1.2.1 μ.1.1.1 99 μ.1.1.1 = c := ht
        rw [up1_s] at ht
        have := zCl_lt hc
        omega
      · have ht : up1 μ.1.2.1 μ.1.1.1 99 μ.1.1.1 = t' := ht
        rw [up1_s] at ht
        omega
    · refine okA.congr (hR.2.1 a) (up1_n _ _ e) (up1_n _ _ e) (up1_n _ _ e) (up1_n _ _ e) (up1_n _ _ e) ?_
      by_cases hl : a < H.size
      · exact h3 a hl
      · rw [Array.getElem?_eq_none (by omega), Array.getElem?_eq_none (by omega)]
  · have h9 : up1 μ.1.2.1 μ.1.1.1 99 a ≠ 99 := h9
    by_cases e : a = μ.1.1.1
    · rw [e, up1_s] at h9; exact absurd rfl h9
    · rw [up1_n _ _ e] at h9; exact hR.2.2 a h9
  · rw [h3 q (by omega)]
    exact s1.2.1 q k1 k2
  · rw [h3 q (by omega)]
    exact s2 q k
  · show _ + (μ.1.1.2.1 - 1) ≤ _
    omega
  · rw [nsl_call hz (fun q hq => by rw [h3 q hq])]
    show _ + (μ.1.1.2.2 - 6) ≤ _
    omega
/-- 'throw new E()' -/
theorem r_throw0 (C : CX Z y cc ret lv nl) {k ik ic : Nat} {e : Ex} (h : tE μ k = some e) (hcls : Bundle.fit (exn k) = true) (qk : Cond.classLink y.cls ik (exn k) ∈ lw_all) (qi : Cond.initialized (exn k) ∈ lw_all) (hat : ∀ w ∈ vx_at0 y.cls ic (exn k) nm9, w ∈ lw_tbl ∧ (goodWord w || zNest w) = true) (hlv : 6 ≤ lv) (hst : (st.map fun v => v.category).sum ≤ 8)
    (d0 : decode cc pc = .ok (.new ik, 3)) (d3 : decode cc (pc + 3) = .ok (.dup, 1)) (d4 : decode cc (pc + 4) = .ok (.invokespecial ic, 3)) (d7 : decode cc (pc + 7) = .ok (.athrow, 1)) (hout : ∀ x ∈ Z.2.2.2.2.2.2.2.2.2.1.exceptionTable.toList, covers x (pc + 7) = false) :
    WL Z (XQ Z (.inl (e.1, e.2.1)) e.2.2) μ pc L st := by
  intro H locs ls hR hS hl
  obtain ⟨q, hq, he⟩ := bs (show (nC μ 99 0 6).bind _ = some e from h)
  cases he
  have hf := C.fr
  have hsp := (ib_ hq).1
  have hrm := hS.room
  have hca := hS.ca
  have hsa := hS.sa
  refine xq_throw0 (own := y.cls) (cls := exn k) (names := nm9) C.ex C.by_ C.tr C.own hcls (by decide) (C.hts _ qk) (C.hts _ qi) (fun w hw => (C.gn (hat w hw)).1) ?_ C.zq.1 C.zq.2 hS.1 (by rw [C.ml]; exact hl.1) d0 d3 d4 d7 hout (by show 2 + 3 < _; omega) (by show _ + (13 * (2 + 1) + 42) ≤ _; omega) (by omega) (by omega) C.lk ?_ hS.1.2.2 (by omega) (by omega)
  · intro w hw
    rcases List.mem_cons.mp hw with e | hw
    · subst e
      unfold vx_ot
      rw [(List.mem_filter.mp qk).2, Bool.or_true]
    · rcases List.mem_cons.mp hw with e | hw
      · subst e
        unfold vx_ot
        rw [(List.mem_filter.mp qi).2, Bool.or_true]
      · exact (C.gn (hat w hw)).2
  · intro t _ h1 h2 h3
    obtain ⟨g1, g2⟩ := exc_ok hR hS hq h1 h2 h3
    exact ⟨k, by rw [← g1], rfl, g2⟩
theorem r_throwI (C : CX Z y cc ret lv nl) {w : Ex ⊕ (Int × Me)} {k ik ic : Nat} {e : Ex} (h : tE μ k = some e) (hw : .inl e = w) (hcls : Bundle.fit (exn k) = true) (qk : Cond.classLink y.cls ik (exn k) ∈ lw_all) (qi : Cond.initialized (exn k) ∈ lw_all) (hat : ∀ w ∈ vx_at0 y.cls ic (exn k) nm9, w ∈ lw_tbl ∧ (goodWord w || zNest w) = true) (hlv : 6 ≤ lv) (hst : (st.map fun v => v.category).sum ≤ 8)
    (d0 : decode cc pc = .ok (.new ik, 3)) (d3 : decode cc (pc + 3) = .ok (.dup, 1)) (d4 : decode cc (pc + 4) = .ok (.invokespecial ic, 3)) (d7 : decode cc (pc + 7) = .ok (.athrow, 1)) (hout : ∀ x ∈ Z.2.2.2.2.2.2.2.2.2.1.exceptionTable.toList, covers x (pc + 7) = false) :
    WL Z (XQ Z (zoI w) (zmI w)) μ pc L st := by subst hw; exact r_throw0 C h hcls qk qi hat hlv hst d0 d3 d4 d7 hout
theorem r_throwV (C : CX Z y cc ret lv nl) {w : Ex ⊕ Me} {k ik ic : Nat} {e : Ex} (h : tE μ k = some e) (hw : .inl e = w) (hcls : Bundle.fit (exn k) = true) (qk : Cond.classLink y.cls ik (exn k) ∈ lw_all) (qi : Cond.initialized (exn k) ∈ lw_all) (hat : ∀ w ∈ vx_at0 y.cls ic (exn k) nm9, w ∈ lw_tbl ∧ (goodWord w || zNest w) = true) (hlv : 6 ≤ lv) (hst : (st.map fun v => v.category).sum ≤ 8)
    (d0 : decode cc pc = .ok (.new ik, 3)) (d3 : decode cc (pc + 3) = .ok (.dup, 1)) (d4 : decode cc (pc + 4) = .ok (.invokespecial ic, 3)) (d7 : decode cc (pc + 7) = .ok (.athrow, 1)) (hout : ∀ x ∈ Z.2.2.2.2.2.2.2.2.2.1.exceptionTable.toList, covers x (pc + 7) = false) :
    WL Z (XQ Z (zoV w) (zmV w)) μ pc L st := by subst hw; exact r_throw0 C h hcls qk qi hat hlv hst d0 d3 d4 d7 hout
/-- the handler that stands first -/
theorem r_catch0 (C : CX Z y cc ret lv nl) {x : Nat × Nat × Nat × Nat} {r : List (Nat × Nat × Nat × Nat)} (X : XT Z (x :: r)) {k q : Nat} {name : String} (hc : covers (⟨x.1, x.2.1, x.2.2.1, x.2.2.2⟩ : ExceptionTableEntry) pc = true) (h0 : x.2.2.2 ≠ 0) (ql : Cond.classLink y.cls x.2.2.2 name ∈ lw_all) (hca : Cond.castable (exn k) name ∈ lw_nst) (kk : WL Z Q μ x.2.2.1 L [vO q]) : WX Z Q μ pc L k q := by
  intro H locs ls rest ce hR hS hl c1 c2 c3
  exact vx_catch C.own [] (⟨x.1, x.2.1, x.2.2.1, x.2.2.2⟩ : ExceptionTableEntry) (tableOf r) X (fun z hz => by cases hz) hc h0 (C.hts _ ql) (C.nst hca) c1 c2 c3 (kk H locs ls hR hS hl)
/-- the second one -/
theorem r_catch1 (C : CX Z y cc ret lv nl) {x0 x : Nat × Nat × Nat × Nat} {r : List (Nat × Nat × Nat × Nat)} (X : XT Z (x0 :: x :: r)) {k q : Nat} {nm0 name : String} (hz0 : x0.2.2.2 ≠ 0) (ql0 : Cond.classLink y.cls x0.2.2.2 nm0 ∈ lw_all) (hn : va_Nc (exn k) nm0 Z.2.2.2.2.1) (hc : covers (⟨x.1, x.2.1, x.2.2.1, x.2.2.2⟩ : ExceptionTableEntry) pc = true) (h0 : x.2.2.2 ≠ 0) (ql : Cond.classLink y.cls x.2.2.2 name ∈ lw_all) (hca : Cond.castable (exn k) name ∈ lw_nst) (kk : WL Z Q μ x.2.2.1 L [vO q]) : WX Z Q μ pc L k q := by
  intro H locs ls rest ce hR hS hl c1 c2 c3
  refine vx_catch C.own [(⟨x0.1, x0.2.1, x0.2.2.1, x0.2.2.2⟩ : ExceptionTableEntry)] (⟨x.1, x.2.1, x.2.2.1, x.2.2.2⟩ : ExceptionTableEntry) (tableOf r) X (fun z hz => ?_) hc h0 (C.hts _ ql) (C.nst hca) c1 c2 c3 (kk H locs ls hR hS hl)
  rw [List.mem_singleton] at hz
  subst hz
  exact Or.inr ⟨hz0, nm0, C.hts _ ql0, hn⟩
section XC8
variable {st0 st1 rest : List Value} {y0 : MethodName} {ret0 : Option FieldType} {lv0 nl0 : Nat} {hh : List (Nat × Nat × Nat × Nat)}
theorem xrunVH (C : CX Z y0 cc ret0 lv0 nl0) {As : List Value} {b ci idx lv maxL n : Nat} {r : vw_C} {y : MethodName} {bytes : ByteArray} {ret : Option FieldType} {o : (Nat × Nat) ⊕ Option Value} (hc : zCl[ci]? = some r) (hk : ck μ ci b = some ()) (hM : XN Z.2.1 Z.2.2.2.2.2.2.2.2.2.2.1 Z.2.2.2.2.2.2.2.2.2.2.2.1 y (wsW_ y bytes maxL ret hh) lv (.ref b :: As) μ o μ1)
    (hg : GoodIn lw_all (wsV y0.cls idx r.1 y (wsW_ y bytes maxL ret hh))) (hcl : y.cls = r.1) (hd : zhd y n) (hn : As.length = n) (hst : (rest.map fun v => v.category).sum ≤ 8) (hlv : lv + 1 ≤ lv0 ∧ 19 + maxL + 64 * lv ≤ 64 * lv0) (d : decode cc pc = .ok (.invokevirtual idx, 3)) : xRun Z μ μ1 o pc L (As.reverse ++ .ref b :: rest) rest (Value.ref b :: As).toArray :=
  fun H locs ls hR hS hl => xq_runVX (As := As) (rest := rest) ⟨C.ex, C.by_, C.ml, C.own, C.hts⟩ hM (vx_cwVW n C.hts hg rfl rfl rfl ⟨hcl, hd⟩ (C.room hlv)) ⟨RPU.blind, C.recv hR hc hk, fun U hU hW => ⟨rfl, C.pre hR hS hU hW⟩⟩ rfl hn hl.1 rfl (lv_room hst) d hS.room
theorem r_xVH (C : CX Z y0 cc ret0 lv0 nl0) {As : List Value} {b ci idx lv maxL n : Nat} {r : vw_C} {y : MethodName} {bytes : ByteArray} {ret : Option FieldType} {v : Option Value} (hc : zCl[ci]? = some r) (hk : ck μ ci b = some ()) (hM : XN Z.2.1 Z.2.2.2.2.2.2.2.2.2.2.1 Z.2.2.2.2.2.2.2.2.2.2.2.1 y (wsW_ y bytes maxL ret hh) lv (.ref b :: As) μ (.inr v) μ1)
    (hg : GoodIn lw_all (wsV y0.cls idx r.1 y (wsW_ y bytes maxL ret hh))) (hcl : y.cls = r.1) (hd : zhd y n) (hn : As.length = n) (h0 : As.reverse ++ .ref b :: rest = st0) (hst : (rest.map fun v => v.category).sum ≤ 8) (hlv : lv + 1 ≤ lv0 ∧ 19 + maxL + 64 * lv ≤ 64 * lv0) (d : decode cc pc = .ok (.invokevirtual idx, 3))
    (h1 : v.toList ++ rest = st1) (kk : WL Z Q μ1 (pc + 3) L st1) : WL Z Q μ pc L st0 := by
  subst h0; subst h1; exact WL.xcallN (xrunVH C hc hk hM hg hcl hd hn hst hlv d) kk
theorem r_xVHx (C : CX Z y0 cc ret0 lv0 nl0) {As : List Value} {b ci idx lv maxL n k q : Nat} {r : vw_C} {y : MethodName} {bytes : ByteArray} {ret : Option FieldType} (hc : zCl[ci]? = some r) (hk : ck μ ci b = some ()) (hM : XN Z.2.1 Z.2.2.2.2.2.2.2.2.2.2.1 Z.2.2.2.2.2.2.2.2.2.2.2.1 y (wsW_ y bytes maxL ret hh) lv (.ref b :: As) μ (.inl (k, q)) μ1)
    (hg : GoodIn lw_all (wsV y0.cls idx r.1 y (wsW_ y bytes maxL ret hh))) (hcl : y.cls = r.1) (hd : zhd y n) (hn : As.length = n) (h0 : As.reverse ++ .ref b :: rest = st0) (hst : (rest.map fun v => v.category).sum ≤ 8) (hlv : lv + 1 ≤ lv0 ∧ 19 + maxL + 64 * lv ≤ 64 * lv0) (d : decode cc pc = .ok (.invokevirtual idx, 3))
    (kx : WX Z Q μ1 pc L k q) : WL Z Q μ pc L st0 := by
  subst h0; exact WL.xcallX (xrunVH C hc hk hM hg hcl hd hn hst hlv d) kx
theorem xrunSH (C : CX Z y0 cc ret0 lv0 nl0) {As : List Value} {idx lv maxL n : Nat} {y : MethodName} {bytes : ByteArray} {ret : Option FieldType} {o : (Nat × Nat) ⊕ Option Value} (hM : XN Z.2.1 Z.2.2.2.2.2.2.2.2.2.2.1 Z.2.2.2.2.2.2.2.2.2.2.2.1 y (wsW_ y bytes maxL ret hh) lv As μ o μ1)
    (hg : GoodIn lw_all (va_wsS y0.cls idx y (wsW_ y bytes maxL ret hh))) (hd : zhd y n) (hn : As.length = n) (hst : (rest.map fun v => v.category).sum ≤ 8) (hlv : lv + 1 ≤ lv0 ∧ 19 + maxL + 64 * lv ≤ 64 * lv0) (d : decode cc pc = .ok (.invokestatic idx, 3)) : xRun Z μ μ1 o pc L (As.reverse ++ rest) rest As.toArray :=
  fun H locs ls hR hS hl => xq_runSX (As := As) (rest := rest) ⟨C.ex, C.by_, C.ml, C.own, C.hts⟩ hM (vx_cwSW n C.hts hg rfl rfl rfl hd (C.room hlv)) ⟨RPU.blind, fun U hU hW => ⟨rfl, C.pre hR hS hU hW⟩⟩ rfl hn hl.1 rfl (lv_room hst) d hS.room
theorem r_xSH (C : CX Z y0 cc ret0 lv0 nl0) {As : List Value} {idx lv maxL n : Nat} {y : MethodName} {bytes : ByteArray} {ret : Option FieldType} {v : Option Value} (hM : XN Z.2.1 Z.2.2.2.2.2.2.2.2.2.2.1 Z.2.2.2.2.2.2.2.2.2.2.2.1 y (wsW_ y bytes maxL ret hh) lv As μ (.inr v) μ1)
    (hg : GoodIn lw_all (va_wsS y0.cls idx y (wsW_ y bytes maxL ret hh))) (hd : zhd y n) (hn : As.length = n) (h0 : As.reverse ++ rest = st0) (hst : (rest.map fun v => v.category).sum ≤ 8) (hlv : lv + 1 ≤ lv0 ∧ 19 + maxL + 64 * lv ≤ 64 * lv0) (d : decode cc pc = .ok (.invokestatic idx, 3))
    (h1 : v.toList ++ rest = st1) (kk : WL Z Q μ1 (pc + 3) L st1) : WL Z Q μ pc L st0 := by
  subst h0; subst h1; exact WL.xcallN (xrunSH C hM hg hd hn hst hlv d) kk
end XC8
end XR2
theorem XT.out {Z : Zt} {hh : List (Nat × Nat × Nat × Nat)} (X : XT Z hh) {pc : Nat} (h : ∀ x ∈ tableOf hh, covers x pc = false) : ∀ x ∈ Z.2.2.2.2.2.2.2.2.2.1.exceptionTable.toList, covers x pc = false := by
  rw [show Z.2.2.2.2.2.2.2.2.2.1.exceptionTable.toList = tableOf hh from X]
  exact h
def uS (μ : Me) (a : Nat) (j : Int) (v : Nat) : Option Me := if isSg (μ.1.2.1 v) = true ∧ μ.1.2.1 a = 106 ∧ 0 ≤ w32 j ∧ w32 j < μ.1.2.2.1 a then some (sR μ a (upz (μ.1.2.2.2 a) (w32 j) (some v))) else none
theorem r_aastS {Z : Zt} {Q : State → Prop} {μ μ1 : Me} {pc : Nat} {L : List (Nat × Value)} {st : List Value} {y : MethodName} {cc : ByteArray} {ret : Option FieldType} {lv nl : Nat} (C : CX Z y cc ret lv nl) {a v : Nat} {j : Int} (h : uS μ a j v = some μ1) (d : decode cc pc = .ok (.aastore, 1))
    (k : WL Z Q μ1 (pc + 1) L st) : WL Z Q μ pc L (vO v :: vI j :: vO a :: st) := by
  obtain ⟨⟨h0, h1⟩, h2⟩ := ib_ h
  obtain ⟨c, r, hc, hty, hca⟩ := isSg_cast h0
  exact r_aast C (t := 106) (c := c) (r := r) (kt := 5) (by unfold uR; rw [if_pos ⟨hty, h1⟩, h2]) hc ⟨by decide, by decide⟩ rfl (Or.inr hca) d k

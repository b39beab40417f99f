/-! a call that is settled by the receiver's class -/
set_option maxRecDepth 100000
section CU9
variable {Z : Zt} {Q : State → Prop} {μ μ1 : Me} {pc : Nat} {L : List (Nat × Value)} {rest st0 st1 : List Value} {y0 : MethodName} {cc : ByteArray} {ret0 : Option FieldType} {lv0 nl0 : Nat}
theorem r_callU (C : CX Z y0 cc ret0 lv0 nl0) {As : List Value} {b ci idx lv maxL n : Nat} {r : vw_C} {x y : MethodName} {bytes : ByteArray} {ret : Option FieldType} {v : Option Value} (hc : zCl[ci]? = some r) (hk : μ.1.2.1 b = ci) (hM : MN Z.2.1 Z.2.2.2.2.2.2.2.2.2.2.1 Z.2.2.2.2.2.2.2.2.2.2.2.1 y (ws_ y bytes maxL ret) lv (.ref b :: As) μ v μ1)
    (q1 : Cond.methodLink y0.cls idx x ∈ lw_all) (q2 : Cond.sameMethod x.cls x.cls x.name x.desc ∈ lw_all) (q3 : Cond.declares x ∈ lw_nst) (q4 : Cond.selects r.1 x y ∈ lw_all) (q5 : Cond.instanceMethod y ∈ lw_all) (q6 : Cond.initialized y.cls ∈ lw_all) (q7 : Cond.code y bytes maxL ret ∈ lw_all) (hd : zhd x n) (hn : As.length = n) (h0 : As.reverse ++ .ref b :: rest = st0) (hst : (rest.map fun v => v.category).sum ≤ 8) (hlv : lv + 1 ≤ lv0 ∧ 19 + maxL + 64 * lv ≤ 64 * lv0) (d : decode cc pc = .ok (.invokevirtual idx, 3))
    (h1 : v.toList ++ rest = st1) (kk : WL Z Q μ1 (pc + 3) L st1) : WL Z Q μ pc L st0 := by
  subst h0; subst h1
  have hk' : ck μ ci b = some () := by unfold ck; rw [if_pos hk]
  refine WL.call (fun H locs ls hR hS hl => va_runU (As := As) (rest := rest) (C := r.1) (owner := x.cls) (x := x) ⟨C.ex, C.by_, C.ml, C.own, C.hts⟩ hM ⟨⟨rfl, rfl, (C.room hlv).1, (C.room hlv).2, pay_in C.hts (lw_meth q7), List.mem_cons_self⟩, C.hts _ q7, C.hts _ q6, ⟨hd.1, hd.2.1⟩, fun sig h => ?_, C.hts _ q1, C.hts _ q2, va_Decl.abs (C.kt.2.1 _ q3), C.hts _ q4, C.hts _ q5⟩ ⟨RPU.blind, C.recv hR hc hk', fun U hU hW => ⟨rfl, C.pre hR hS hU hW⟩⟩ rfl hn hl.1 rfl (lv_room hst) d hS.room) kk
  have h2 := hd.2.2
  rw [h] at h2
  exact (Option.some.inj h2).symm
end CU9
/-- the contract of a Sign's method, whatever its class -/
def SgV (l : Launch) (D : va_G) (b0 lv : Nat) (x : MethodName) (ret : Option FieldType) (As : List Value) (b : Nat) (μ : Me) (v : Option Value) (μ1 : Me) : Prop :=
  ∃ (ci : Nat) (r : vw_C) (y : MethodName) (bytes : ByteArray) (nl : Nat), zCl[ci]? = some r ∧ μ.1.2.1 b = ci ∧ Cond.selects r.1 x y ∈ lw_all ∧ Cond.instanceMethod y ∈ lw_all ∧ Cond.initialized y.cls ∈ lw_all ∧ Cond.code y bytes nl ret ∈ lw_all ∧ nl ≤ 10 ∧ MN l D b0 y (ws_ y bytes nl ret) lv (.ref b :: As) μ v μ1
theorem r_callSg {Z : Zt} {Q : State → Prop} {μ μ1 : Me} {pc : Nat} {L : List (Nat × Value)} {rest st0 st1 : List Value} {y0 : MethodName} {cc : ByteArray} {ret0 : Option FieldType} {lv0 nl0 : Nat} (C : CX Z y0 cc ret0 lv0 nl0) {As : List Value} {b idx lv n : Nat} {x : MethodName} {ret : Option FieldType} {v : Option Value} (hM : SgV Z.2.1 Z.2.2.2.2.2.2.2.2.2.2.1 Z.2.2.2.2.2.2.2.2.2.2.2.1 lv x ret As b μ v μ1)
    (q1 : Cond.methodLink y0.cls idx x ∈ lw_all) (q2 : Cond.sameMethod x.cls x.cls x.name x.desc ∈ lw_all) (q3 : Cond.declares x ∈ lw_nst) (hd : zhd x n) (hn : As.length = n) (h0 : As.reverse ++ .ref b :: rest = st0) (hst : (rest.map fun v => v.category).sum ≤ 8) (hlv : lv + 1 ≤ lv0 ∧ 29 + 64 * lv ≤ 64 * lv0) (d : decode cc pc = .ok (.invokevirtual idx, 3))
    (h1 : v.toList ++ rest = st1) (kk : WL Z Q μ1 (pc + 3) L st1) : WL Z Q μ pc L st0 := by
  obtain ⟨ci, r, y, bytes, nl, hc, hk, q4, q5, q6, q7, hnl, hM⟩ := hM
  exact r_callU C hc hk hM q1 q2 q3 q4 q5 q6 q7 hd hn h0 hst ⟨hlv.1, by omega⟩ d h1 kk
def xSv : MethodName := ⟨"LetterForms$Sign", "value", "(LLetterForms;LLetterForms$Form;I)V"⟩
def xSr : MethodName := ⟨"LetterForms$Sign", "rank", "(Z)I"⟩
theorem hdxSv : zhd xSv 3 := by decide +kernel
theorem hdxSr : zhd xSr 1 := by decide +kernel

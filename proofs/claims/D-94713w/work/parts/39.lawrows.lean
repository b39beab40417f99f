/-! the law's own body: the script, the end -/
set_option maxRecDepth 100000
/-- the script's element -/
def gX (b n : Nat) (xs : Nat → Int32) (a : Nat) (j : Int) : Option Int := if a = b ∧ 0 ≤ w32 j ∧ w32 j < n then some (xs (w32 j).toNat).toInt else none
def lX (b n : Nat) (a : Nat) : Option Int := if a = b then some (n : Int) else none
/-- what holds all through the law: the script lies at b, under all that is ours; to answer 1 is to end well -/
def LX (Z : Zt) (Qf : State → Prop) (b n : Nat) (xs : Nat → Int32) : Prop :=
  va_X b n xs Z.2.2.2.2.1 Z.2.2.2.2.1.heap ∧ b < Z.2.2.2.2.1.heap.size ∧ b < Z.2.2.2.2.2.2.2.2.2.2.2.1 ∧ n ≤ 384 ∧
  ∀ (μ : Me) (pc : Nat) (L : List (Nat × Value)), decode cL_law pc = .ok (.ireturn, 1) → WL Z Qf μ pc L [vI 1]
section LWR
variable {Z : Zt} {Q Qf : State → Prop} {μ : Me} {pc : Nat} {L : List (Nat × Value)} {st : List Value} {y : MethodName} {cc : ByteArray} {ret : Option FieldType} {lv nl b n : Nat} {xs : Nat → Int32}
theorem r_xld (C : CX Z y cc ret lv nl) (G : LX Z Qf b n xs) {a : Nat} {j v : Int} (h : gX b n xs a j = some v) (d : decode cc pc = .ok (.iaload, 1)) (k : WL Z Q μ (pc + 1) L (vI v :: st)) : WL Z Q μ pc L (vI j :: vO a :: st) := by
  obtain ⟨⟨h0, h1, h2⟩, h3⟩ := ib_ h
  subst h0
  intro H locs ls hR hS hl
  obtain ⟨g1, g2, g3, g4, -⟩ := G
  refine va_sld (A := fun q => Z.2.2.2.2.2.2.2.2.2.2.2.1 ≤ q) C.ex C.by_ g1 g2 (by omega) hS.1 (z_in h1 h2) d ?_
  have e : Value.int (xs (Int32.ofInt j).toNatClampNeg) = vI v := by
    rw [z_clamp, ← h3]
    simp
  rw [e]
  exact k H locs ls hR hS hl
theorem r_xlen (C : CX Z y cc ret lv nl) (G : LX Z Qf b n xs) {a : Nat} {v : Int} (h : lX b n a = some v) (d : decode cc pc = .ok (.arraylength, 1)) (k : WL Z Q μ (pc + 1) L (vI v :: st)) : WL Z Q μ pc L (vO a :: st) := by
  obtain ⟨h0, h3⟩ := ib_ h
  subst h0
  intro H locs ls hR hS hl
  obtain ⟨g1, g2, g3, g4, -⟩ := G
  refine va_slen (A := fun q => Z.2.2.2.2.2.2.2.2.2.2.2.1 ≤ q) C.ex C.by_ g1 g2 (by omega) hS.1 d ?_
  have e : Value.int (Int32.ofNat n) = vI v := by
    rw [← h3]
    rfl
  rw [e]
  exact k H locs ls hR hS hl
theorem r_lawret (G : LX Z Qf b n xs) (d : decode cL_law pc = .ok (.ireturn, 1)) : WL Z Qf μ pc L [vI 1] := G.2.2.2.2 μ pc L d
end LWR

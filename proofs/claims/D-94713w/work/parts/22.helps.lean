/-! what the rows stand on -/
set_option maxRecDepth 100000
theorem z_lt0 {a : Int} : Int32.ofInt a < 0 ↔ w32 a < 0 := by rw [z_0, z_lt]; rfl
theorem z_0lt {a : Int} : 0 < Int32.ofInt a ↔ 0 < w32 a := by rw [z_0, z_lt]; rfl
theorem z_le0 {a : Int} : Int32.ofInt a ≤ 0 ↔ w32 a ≤ 0 := by rw [z_0, z_le]; rfl
theorem z_0le {a : Int} : 0 ≤ Int32.ofInt a ↔ 0 ≤ w32 a := by rw [z_0, z_le]; rfl
theorem z_eq0 {a : Int} : Int32.ofInt a = 0 ↔ w32 a = 0 := by rw [z_0, z_inj]; rfl
theorem z_narB {x : Int} (hz : x = 0 ∨ x = 1) : narrow .boolean (vI x) = vI x := by
  rcases hz with e | e <;> subst e <;> decide
def dvI (a b : Int) : Option Int := if w32 b = 0 then none else some ((w32 a).tdiv (w32 b))
def rmI (a b : Int) : Option Int := if w32 b = 0 then none else some ((w32 a).tmod (w32 b))
def dvJ (a b : Int) : Option Int := if w64 b = 0 then none else some ((w64 a).tdiv (w64 b))
def rmJ (a b : Int) : Option Int := if w64 b = 0 then none else some ((w64 a).tmod (w64 b))
theorem z_div (a b : Int) : Int32.ofInt a / Int32.ofInt b = Int32.ofInt ((w32 a).tdiv (w32 b)) := by
  rw [← Int32.toInt_inj, Int32.toInt_div, w32_eq, w32_eq, Int32.toInt_ofInt]
theorem z_divL (a b : Int) : Int64.ofInt a / Int64.ofInt b = Int64.ofInt ((w64 a).tdiv (w64 b)) := by
  rw [← Int64.toInt_inj, Int64.toInt_div, w64_eq, w64_eq, Int64.toInt_ofInt]
theorem z_w64 (a : Int) : Int64.ofInt (w64 a) = Int64.ofInt a := z_injL.mpr (by unfold w64; omega)
theorem z_rem (a b : Int) : Int32.ofInt a - Int32.ofInt a / Int32.ofInt b * Int32.ofInt b = Int32.ofInt ((w32 a).tmod (w32 b)) := by
  rw [z_div, Int.tmod_def, Int32.ofInt_sub, Int32.ofInt_mul, z_w32, z_w32, Int32.mul_comm]
theorem z_remL (a b : Int) : Int64.ofInt a - Int64.ofInt a / Int64.ofInt b * Int64.ofInt b = Int64.ofInt ((w64 a).tmod (w64 b)) := by
  rw [z_divL, Int.tmod_def, Int64.ofInt_sub, Int64.ofInt_mul, z_w64, z_w64, Int64.mul_comm]
theorem z_0L : (0 : Int64) = Int64.ofInt 0 := by decide
theorem dvI_ok {a b v : Int} (h : dvI a b = some v) : ¬ Int32.ofInt b = 0 ∧ Int32.ofInt a / Int32.ofInt b = Int32.ofInt v := by
  unfold dvI at h
  by_cases e : w32 b = 0
  · rw [if_pos e] at h; cases h
  · rw [if_neg e] at h
    cases h
    exact ⟨fun q => e (z_eq0.mp q), z_div a b⟩
theorem rmI_ok {a b v : Int} (h : rmI a b = some v) : ¬ Int32.ofInt b = 0 ∧ Int32.ofInt a - Int32.ofInt a / Int32.ofInt b * Int32.ofInt b = Int32.ofInt v := by
  unfold rmI at h
  by_cases e : w32 b = 0
  · rw [if_pos e] at h; cases h
  · rw [if_neg e] at h
    cases h
    exact ⟨fun q => e (z_eq0.mp q), z_rem a b⟩
theorem z_eq0L {a : Int} : Int64.ofInt a = 0 ↔ w64 a = 0 := by rw [z_0L, z_injL]; rfl
theorem dvJ_ok {a b v : Int} (h : dvJ a b = some v) : ¬ Int64.ofInt b = 0 ∧ Int64.ofInt a / Int64.ofInt b = Int64.ofInt v := by
  unfold dvJ at h
  by_cases e : w64 b = 0
  · rw [if_pos e] at h; cases h
  · rw [if_neg e] at h
    cases h
    exact ⟨fun q => e (z_eq0L.mp q), z_divL a b⟩
theorem rmJ_ok {a b v : Int} (h : rmJ a b = some v) : ¬ Int64.ofInt b = 0 ∧ Int64.ofInt a - Int64.ofInt a / Int64.ofInt b * Int64.ofInt b = Int64.ofInt v := by
  unfold rmJ at h
  by_cases e : w64 b = 0
  · rw [if_pos e] at h; cases h
  · rw [if_neg e] at h
    cases h
    exact ⟨fun q => e (z_eq0L.mp q), z_remL a b⟩
def anI (a b : Int) : Int := (Int32.ofInt a &&& Int32.ofInt b).toInt
def orI (a b : Int) : Int := (Int32.ofInt a ||| Int32.ofInt b).toInt
def slI (a b : Int) : Int := (Int32.ofInt a <<< (Int32.ofInt b &&& 31)).toInt
def srI (a b : Int) : Int := (Int32.ofInt a >>> (Int32.ofInt b &&& 31)).toInt
def urI (a b : Int) : Int := (((Int32.ofInt a).toUInt32 >>> ((Int32.ofInt b).toUInt32 &&& Int32.toUInt32 31)).toInt32).toInt
def xoI (a b : Int) : Int := (Int32.ofInt a ^^^ Int32.ofInt b).toInt
def xoJ (a b : Int) : Int := (Int64.ofInt a ^^^ Int64.ofInt b).toInt
theorem xoI_ok {a b : Int} : Int32.ofInt (xoI a b) = Int32.ofInt a ^^^ Int32.ofInt b := Int32.ofInt_toInt _
theorem xoJ_ok {a b : Int} : Int64.ofInt (xoJ a b) = Int64.ofInt a ^^^ Int64.ofInt b := Int64.ofInt_toInt _
theorem anI_ok {a b : Int} : Int32.ofInt (anI a b) = Int32.ofInt a &&& Int32.ofInt b := Int32.ofInt_toInt _
theorem orI_ok {a b : Int} : Int32.ofInt (orI a b) = Int32.ofInt a ||| Int32.ofInt b := Int32.ofInt_toInt _
theorem slI_ok {a b : Int} : Int32.ofInt (slI a b) = Int32.ofInt a <<< (Int32.ofInt b &&& 31) := Int32.ofInt_toInt _
theorem srI_ok {a b : Int} : Int32.ofInt (srI a b) = Int32.ofInt a >>> (Int32.ofInt b &&& 31) := Int32.ofInt_toInt _
theorem urI_ok (a b : Int) : Int32.ofInt (urI a b) = ((Int32.ofInt a).toUInt32 >>> ((Int32.ofInt b).toUInt32 &&& Int32.toUInt32 31)).toInt32 := Int32.ofInt_toInt _
theorem i2l_ok (a : Int) : (Int32.ofInt a).toInt64 = Int64.ofInt (w32 a) := by
  rw [← Int64.toInt_inj, Int32.toInt_toInt64, w32_eq, w64_eq, w64_id (Int.le_trans (by decide) (w32_lo a)) (Int.lt_of_lt_of_le (w32_hi a) (by decide))]
theorem w8_32 (a : Int) : w32 (w8 a) = w8 a := w32_id (by unfold w8; omega) (by unfold w8; omega)
theorem i2b_ok (a : Int) : (Int32.ofInt a).toInt8.toInt32 = Int32.ofInt (w8 a) := by
  rw [← Int32.toInt_inj, Int8.toInt_toInt32, Int32.toInt8_ofInt, w8_eq, w32_eq, w8_32]
theorem z_ltL {a b : Int} : Int64.ofInt a < Int64.ofInt b ↔ w64 a < w64 b := by rw [Int64.lt_iff_toInt_lt, w64_eq, w64_eq]
theorem lc_eq0 (a b : Int) : lg_cmp (Int64.ofInt a) (Int64.ofInt b) = if w64 b < w64 a then 1 else if w64 a = w64 b then 0 else -1 := by
  unfold lg_cmp
  simp only [gt_iff_lt, z_ltL, z_injL]
theorem lc_cases (a b : Int) : (w64 a < w64 b ∧ lg_cmp (Int64.ofInt a) (Int64.ofInt b) = -1) ∨ (w64 a = w64 b ∧ lg_cmp (Int64.ofInt a) (Int64.ofInt b) = 0) ∨ (w64 b < w64 a ∧ lg_cmp (Int64.ofInt a) (Int64.ofInt b) = 1) := by
  rw [lc_eq0]
  by_cases h1 : w64 b < w64 a
  · rw [if_pos h1]; exact Or.inr (Or.inr ⟨h1, rfl⟩)
  · rw [if_neg h1]
    by_cases h2 : w64 a = w64 b
    · rw [if_pos h2]; exact Or.inr (Or.inl ⟨h2, rfl⟩)
    · rw [if_neg h2]; exact Or.inl ⟨by omega, rfl⟩
theorem lc_lt (a b : Int) : lg_cmp (Int64.ofInt a) (Int64.ofInt b) < 0 ↔ w64 a < w64 b := by
  rcases lc_cases a b with ⟨h, e⟩ | ⟨h, e⟩ | ⟨h, e⟩ <;> rw [e] <;> constructor <;> intro q <;> first | exact h | (exact absurd q (by decide)) | decide | omega | (exfalso; omega)
theorem lc_ge (a b : Int) : 0 ≤ lg_cmp (Int64.ofInt a) (Int64.ofInt b) ↔ w64 b ≤ w64 a := by
  rcases lc_cases a b with ⟨h, e⟩ | ⟨h, e⟩ | ⟨h, e⟩ <;> rw [e] <;> constructor <;> intro q <;> first | exact h | (exact absurd q (by decide)) | decide | omega | (exfalso; omega)
theorem lc_gt (a b : Int) : 0 < lg_cmp (Int64.ofInt a) (Int64.ofInt b) ↔ w64 b < w64 a := by
  rcases lc_cases a b with ⟨h, e⟩ | ⟨h, e⟩ | ⟨h, e⟩ <;> rw [e] <;> constructor <;> intro q <;> first | exact h | (exact absurd q (by decide)) | decide | omega | (exfalso; omega)
theorem lc_le (a b : Int) : lg_cmp (Int64.ofInt a) (Int64.ofInt b) ≤ 0 ↔ w64 a ≤ w64 b := by
  rcases lc_cases a b with ⟨h, e⟩ | ⟨h, e⟩ | ⟨h, e⟩ <;> rw [e] <;> constructor <;> intro q <;> first | exact h | (exact absurd q (by decide)) | decide | omega | (exfalso; omega)
theorem lc_eq (a b : Int) : lg_cmp (Int64.ofInt a) (Int64.ofInt b) = 0 ↔ w64 a = w64 b := by
  rcases lc_cases a b with ⟨h, e⟩ | ⟨h, e⟩ | ⟨h, e⟩ <;> rw [e] <;> constructor <;> intro q <;> first | exact h | (exact absurd q (by decide)) | decide | omega | (exfalso; omega)
theorem lc_ne (a b : Int) : lg_cmp (Int64.ofInt a) (Int64.ofInt b) ≠ 0 ↔ w64 a ≠ w64 b := not_congr (lc_eq a b)
/-! reads -/
def zkI : FieldType → Bool
  | .long => false
  | .object _ => false
  | .array _ => false
  | _ => true
def zkJ : FieldType → Bool
  | .long => true
  | _ => false
def zkR : FieldType → Bool
  | .object _ => true
  | .array _ => true
  | _ => false
theorem gI_ok {μ : Me} {c a k0 : Nat} {v : Int} (ht : zkI (zty c k0) = true) (h : gI μ c a k0 = some v) : μ.1.2.1 a = c ∧ fV μ c a k0 = vI v := by
  obtain ⟨h1, h2⟩ := ib_ h
  refine ⟨h1, ?_⟩
  unfold fV
  rw [h2]
  cases e : zty c k0 <;> first | rfl | (rw [e] at ht; cases ht)
theorem gJ_ok {μ : Me} {c a k0 : Nat} {v : Int} (ht : zkJ (zty c k0) = true) (h : gJ μ c a k0 = some v) : μ.1.2.1 a = c ∧ fV μ c a k0 = vJ v := by
  obtain ⟨h1, h2⟩ := ib_ h
  refine ⟨h1, ?_⟩
  unfold fV
  rw [h2]
  cases e : zty c k0 <;> first | rfl | (rw [e] at ht; cases ht)
theorem gR_ok {μ : Me} {c a k0 v : Nat} (ht : zkR (zty c k0) = true) (h : gR μ c a k0 = some v) : μ.1.2.1 a = c ∧ fV μ c a k0 = vO v := by
  unfold gR at h
  by_cases h1 : μ.1.2.1 a = c
  · rw [if_pos h1] at h
    refine ⟨h1, ?_⟩
    unfold fV
    rw [h]
    cases e : zty c k0 <;> first | rfl | (rw [e] at ht; cases ht)
  · rw [if_neg h1] at h; cases h
section G
variable {Z : Zt} {Q : State → Prop} {μ μ1 : Me} {pc : Nat} {y : MethodName} {cc : ByteArray} {ret : Option FieldType} {lv nl : Nat} {H : Heap} {locs : List Loc} {ls : Array Slot} {cells slots : Nat} {rest : List Value}
theorem getC (C : CX Z y cc ret lv nl) (hR : RP Z.2.2.2.2.2.2.2.2.2.2.1 Z.2.2.2.2.2.2.2.2.2.2.2.1 μ H) {c a idx : Nat} {r : vw_C} {v : Value} (hc : zCl[c]? = some r) (k0 : Nat) (hk : k0 < r.2.2) (h0 : μ.1.2.1 a = c) (h1 : fV μ c a k0 = v) (hl : (Cond.fieldLink y.cls idx (r.2.1 k0).1 (r.2.1 k0).2.1 (r.2.1 k0).2.2.1).before Z.2.2.2.2.2.2.1 Z.2.2.2.2.1 = true) (d : decode cc pc = .ok (.getfield idx, 3))
    (k : W Z.1 Z.2.1 Z.2.2.1 Z.2.2.2.1 Z.2.2.2.2.1 Z.2.2.2.2.2.1 Z.2.2.2.2.2.2.1 Z.2.2.2.2.2.2.2.1 Z.2.2.2.2.2.2.2.2.1 Z.2.2.2.2.2.2.2.2.2.1 H locs cells slots Q (F0 Z.2.2.2.2.2.1 (pc + 3) ls (v :: rest))) : W Z.1 Z.2.1 Z.2.2.1 Z.2.2.2.1 Z.2.2.2.2.1 Z.2.2.2.2.2.1 Z.2.2.2.2.2.2.1 Z.2.2.2.2.2.2.2.1 Z.2.2.2.2.2.2.2.2.1 Z.2.2.2.2.2.2.2.2.2.1 H locs cells slots Q (F0 Z.2.2.2.2.2.1 pc ls (vO a :: rest)) := by
  obtain ⟨cell, q1, q2, q3, q4⟩ := (hR.2.1 a).1 c r hc h0
  obtain ⟨hS, hfc, kC, hkC, hkind⟩ := C.kt.1.1 c _ hc
  obtain ⟨cf, kf, fi, f, hi, hsl⟩ := hS k0 hk
  refine W.getf C.ex C.by_ C.own hl hi (u_facts hfc hkC (u_lays C.hts (zCl_ok hc).1 hk) hi).1 q1 (by rw [q3]; exact fun h => by cases h) (v := v) ?_ rfl rfl d k
  rw [hsl, q4 k0 hk, h1]
theorem getCN (C : CX Z y cc ret lv nl) (hR : RP Z.2.2.2.2.2.2.2.2.2.2.1 Z.2.2.2.2.2.2.2.2.2.2.2.1 μ H) {c a idx : Nat} {r : vw_C} {v : Value} {host : String} (hc : zCl[c]? = some r) (k0 : Nat) (hk : k0 < r.2.2) (h0 : μ.1.2.1 a = c) (h1 : fV μ c a k0 = v) (hl : (Cond.fieldLinkNest y.cls idx (r.2.1 k0).1 (r.2.1 k0).2.1 (r.2.1 k0).2.2.1 host).before Z.2.2.2.2.2.2.1 Z.2.2.2.2.1 = true) (d : decode cc pc = .ok (.getfield idx, 3))
    (k : W Z.1 Z.2.1 Z.2.2.1 Z.2.2.2.1 Z.2.2.2.2.1 Z.2.2.2.2.2.1 Z.2.2.2.2.2.2.1 Z.2.2.2.2.2.2.2.1 Z.2.2.2.2.2.2.2.2.1 Z.2.2.2.2.2.2.2.2.2.1 H locs cells slots Q (F0 Z.2.2.2.2.2.1 (pc + 3) ls (v :: rest))) : W Z.1 Z.2.1 Z.2.2.1 Z.2.2.2.1 Z.2.2.2.2.1 Z.2.2.2.2.2.1 Z.2.2.2.2.2.2.1 Z.2.2.2.2.2.2.2.1 Z.2.2.2.2.2.2.2.2.1 Z.2.2.2.2.2.2.2.2.2.1 H locs cells slots Q (F0 Z.2.2.2.2.2.1 pc ls (vO a :: rest)) := by
  obtain ⟨cell, q1, q2, q3, q4⟩ := (hR.2.1 a).1 c r hc h0
  have hP : va_P Z.2.2.2.2.2.2.2.2.2.2.1 zCl [(a, .inr (c, (List.range r.2.2).map (fV μ c a)))] H := by
    intro k q hq
    have hz : k < 1 := (List.getElem?_eq_some_iff.mp hq).1
    rw [show k = 0 by omega] at hq
    cases hq
    refine ⟨r, hc, cell, q1, q2, q3, fun j hj => ?_⟩
    rw [q4 j hj]
    simp [vp_V, hj]
  exact va_getN C.ex C.by_ C.hts (zCl_ok hc).1 C.own C.kt.1 hP 0 rfl hc k0 hk hl (fun x h => h) (by simp [hk, h1]) d k
theorem setSize (cell : Cell) (i : Nat) (v : Value) : (cell.setSlot i v).slots.size = cell.slots.size := by simp [Cell.setSlot]
/-- a store: the memory moves at one address -/
theorem store_ok {D : va_G} {b0 : Nat} {H0 H1 : Heap} {R : Room} {a k : Nat} {cell cell1 : Cell} (hR : RP D b0 μ H) (hS : SS b0 H0 R μ H locs) (hcell : H[a]? = some cell) (e1 : H1[a]? = some cell1) (hsz : cell1.slots.size = cell.slots.size) (e2 : H1.size = H.size) (e3 : ∀ q : Nat, q ≠ a → H1[q]? = H[q]?)
    (hs : μ1.1.1 = μ.1.1 ∧ μ1.1.2.1 = μ.1.2.1 ∧ μ1.1.2.2.1 = μ.1.2.2.1) (ho : ∀ q : Nat, q ≠ a → μ1.1.2.2.2 q = μ.1.2.2.2 q ∧ μ1.2.1 q = μ.2.1 q ∧ μ1.2.2 q = μ.2.2 q) (ha : okA D μ1 H1 a) (hab : b0 ≤ a) :
    RP D b0 μ1 H1 ∧ SS b0 H0 R μ1 H1 (locs ++ [⟨a, k⟩]) ∧ H1.size = H.size ∧ nsl H0.size H1 = nsl H0.size H := by
  have hm : ∀ q : Nat, (H1[q]?).map (fun c : Cell => c.slots.size) = (H[q]?).map (fun c : Cell => c.slots.size) := by
    intro q
    by_cases h : q = a
    · subst h
      rw [e1, hcell]
      exact congrArg some hsz
    · rw [e3 q h]
  have hn := nsl_map hm H0.size
  refine ⟨⟨by rw [e2, hs.1]; exact hR.1, fun q => ?_, fun q hq => hR.2.2 q (by rw [← hs.2.1]; exact hq)⟩, ⟨hS.1.put e2 e3 hab, fun q hq => (hm q).trans (hS.2.1 q hq), by rw [e2, hs.1]; exact hS.2.2.1, by rw [hn, hs.1]; exact hS.2.2.2⟩, e2, hn⟩
  by_cases h : q = a
  · subst h
    exact ha
  · exact (hR.2.1 q).congr (by rw [hs.2.1]) (by rw [hs.2.2]) (ho q h).1 (ho q h).2.1 (ho q h).2.2 (e3 q h)
def fPut (μ μ1 : Me) (c a k0 : Nat) (val : Value) : Prop := μ.1.2.1 a = c ∧ (∀ j : Nat, fV μ1 c a j = if j = k0 then val else fV μ c a j) ∧ (μ1.1.1 = μ.1.1 ∧ μ1.1.2.1 = μ.1.2.1 ∧ μ1.1.2.2.1 = μ.1.2.2.1) ∧ ∀ q : Nat, q ≠ a → μ1.1.2.2.2 q = μ.1.2.2.2 q ∧ μ1.2.1 q = μ.2.1 q ∧ μ1.2.2 q = μ.2.2 q
theorem pI_ok {c a k0 : Nat} {v : Int} (ht : zkI (zty c k0) = true) (h : pI μ c a k0 v = some μ1) : fPut μ μ1 c a k0 (vI v) := by
  obtain ⟨h1, h2⟩ := ib_ h
  subst h2
  refine ⟨h1, fun j => ?_, ⟨rfl, rfl, rfl⟩, fun q hq => ⟨rfl, up1_n _ _ hq, rfl⟩⟩
  by_cases e : j = k0
  · subst e
    rw [if_pos rfl]
    unfold fV sI
    cases e2 : zty c j <;> first | (rw [e2] at ht; cases ht; done) | simp [up1, upz]
  · rw [if_neg e]
    unfold fV sI
    have e3 : ¬ (j : Int) = (k0 : Int) := by omega
    cases e2 : zty c j <;> simp [up1, upz, e3, e]
theorem pJ_ok {c a k0 : Nat} {v : Int} (ht : zkJ (zty c k0) = true) (h : pJ μ c a k0 v = some μ1) : fPut μ μ1 c a k0 (vJ v) := by
  obtain ⟨h1, h2⟩ := ib_ h
  subst h2
  refine ⟨h1, fun j => ?_, ⟨rfl, rfl, rfl⟩, fun q hq => ⟨rfl, rfl, up1_n _ _ hq⟩⟩
  by_cases e : j = k0
  · subst e
    rw [if_pos rfl]
    unfold fV sJ
    cases e2 : zty c j <;> first | (rw [e2] at ht; cases ht; done) | simp [up1, upz]
  · rw [if_neg e]
    unfold fV sJ
    have e3 : ¬ (j : Int) = (k0 : Int) := by omega
    cases e2 : zty c j <;> simp [up1, upz, e3, e]
theorem pR_ok {c a k0 : Nat} {v : Nat} (ht : zkR (zty c k0) = true) (h : pR μ c a k0 v = some μ1) : fPut μ μ1 c a k0 (vO v) := by
  obtain ⟨h1, h2⟩ := ib_ h
  subst h2
  refine ⟨h1, fun j => ?_, ⟨rfl, rfl, rfl⟩, fun q hq => ⟨up1_n _ _ hq, rfl, rfl⟩⟩
  by_cases e : j = k0
  · subst e
    rw [if_pos rfl]
    unfold fV sR
    cases e2 : zty c j <;> first | (rw [e2] at ht; cases ht; done) | simp [up1, upz, va_rf]
  · rw [if_neg e]
    unfold fV sR
    have e3 : ¬ (j : Int) = (k0 : Int) := by omega
    cases e2 : zty c j <;> simp [up1, upz, e3, e]
theorem zCl_lt {c : Nat} {r : vw_C} (h : zCl[c]? = some r) : c < 15 := (List.getElem?_eq_some_iff.mp h).1
theorem okA_put {D : va_G} {H1 : Heap} {c a k0 : Nat} {r : vw_C} {val : Value} {cell : Cell} (hc : zCl[c]? = some r) (hF : fPut μ μ1 c a k0 val) (q2 : cell.cls = D.1 c) (q3 : cell.vm = .none) (q4 : ∀ k, k < r.2.2 → cell.slots[D.2 c k]? = some (fV μ c a k)) (hk : k0 < r.2.2) (hap : ∀ x y, x < r.2.2 → y < r.2.2 → x ≠ y → D.2 c x ≠ D.2 c y)
    (e1 : H1[a]? = some (cell.setSlot (D.2 c k0) val)) : okA D μ1 H1 a := by
  obtain ⟨h0, h1, ⟨-, hs2, -⟩, -⟩ := hF
  refine ⟨fun c' r' hc' ht => ?_, fun t l1 l2 ht => ?_⟩
  · rw [hs2, h0] at ht
    subst ht
    rw [hc] at hc'
    cases hc'
    refine t_OB.to (V := updV (fV μ c a) k0 val) ⟨_, e1, q2, q3, t_set q4 hap hk val⟩ (fun j _ => ?_)
    rw [h1 j]
    rfl
  · rw [hs2, h0] at ht
    have := zCl_lt hc
    omega
theorem putC (C : CX Z y cc ret lv nl) (hR : RP Z.2.2.2.2.2.2.2.2.2.2.1 Z.2.2.2.2.2.2.2.2.2.2.2.1 μ H) (hS : SS Z.2.2.2.2.2.2.2.2.2.2.2.1 Z.2.2.2.2.1.heap Z.2.2.2.1 μ H locs) {c a idx : Nat} {r : vw_C} {v : Value} (hc : zCl[c]? = some r) (k0 : Nat) (hk : k0 < r.2.2) (hF : fPut μ μ1 c a k0 v) (hn : narrow (zty c k0) v = v ∧ fits (zty c k0) v = true) (hf : (r.2.1 k0).2.2.2 = false)
    (hl : (Cond.fieldLink y.cls idx (r.2.1 k0).1 (r.2.1 k0).2.1 (r.2.1 k0).2.2.1).before Z.2.2.2.2.2.2.1 Z.2.2.2.2.1 = true) (d : decode cc pc = .ok (.putfield idx, 3))
    (k : ∀ (H1 : Heap) (locs1 : List Loc), RP Z.2.2.2.2.2.2.2.2.2.2.1 Z.2.2.2.2.2.2.2.2.2.2.2.1 μ1 H1 → SS Z.2.2.2.2.2.2.2.2.2.2.2.1 Z.2.2.2.2.1.heap Z.2.2.2.1 μ1 H1 locs1 → W Z.1 Z.2.1 Z.2.2.1 Z.2.2.2.1 Z.2.2.2.2.1 Z.2.2.2.2.2.1 Z.2.2.2.2.2.2.1 Z.2.2.2.2.2.2.2.1 Z.2.2.2.2.2.2.2.2.1 Z.2.2.2.2.2.2.2.2.2.1 H1 locs1 (H1.size - Z.2.2.2.2.1.heap.size) (nsl Z.2.2.2.2.1.heap.size H1) Q (F0 Z.2.2.2.2.2.1 (pc + 3) ls rest)) :
    W Z.1 Z.2.1 Z.2.2.1 Z.2.2.2.1 Z.2.2.2.2.1 Z.2.2.2.2.2.1 Z.2.2.2.2.2.2.1 Z.2.2.2.2.2.2.2.1 Z.2.2.2.2.2.2.2.2.1 Z.2.2.2.2.2.2.2.2.2.1 H locs (H.size - Z.2.2.2.2.1.heap.size) (nsl Z.2.2.2.2.1.heap.size H) Q (F0 Z.2.2.2.2.2.1 pc ls (v :: vO a :: rest)) := by
  have hok := zCl_ok hc
  have hap := va_apart (own := y.cls) (s := Z.2.2.2.2.1) C.hts hok.1 _ hok.2.1 hok.2.2 C.kt.1 hc
  obtain ⟨cell, q1, q2, q3, q4⟩ := (hR.2.1 a).1 c r hc hF.1
  obtain ⟨hS0, hfc, kC, hkC, hkind⟩ := C.kt.1.1 c _ hc
  obtain ⟨cf, kf, fi, f, hi, hsl⟩ := hS0 k0 hk
  have hlay := C.hts _ (hok.1 _ (u_in_lay hk))
  unfold u_lay at hlay
  rw [if_neg (by rw [hf]; decide)] at hlay
  have hst := (u_facts hfc hkC (u_lays C.hts hok.1 hk) hi).1
  have h6 := u_store hfc hkC hkind hlay hi (hok.2.1 k0 hk) hn.1 hn.2
  refine W.putK C.ex C.by_ (f := f) ⟨C.own, hl, ⟨_, _, _, hi⟩, hst⟩ (by rw [q2]; exact h6) q1 q3 (by rw [hsl]; exact k2_hasslot (q4 k0 hk)) rfl rfl d fun H' e1 e2 e3 => ?_
  rw [hsl] at e1 ⊢
  have hb := hR.2.2 a (by rw [hF.1]; have := zCl_lt hc; omega)
  obtain ⟨g1, g2, g3, g4⟩ := store_ok (k := Z.2.2.2.2.2.2.2.2.2.2.1.2 c k0) hR hS q1 e1 (setSize _ _ _) e2 e3 hF.2.2.1 hF.2.2.2 (okA_put hc hF q2 q3 q4 hk hap e1) hb
  rw [← g3, ← g4]
  exact k H' _ g1 g2
theorem putCN (C : CX Z y cc ret lv nl) (hR : RP Z.2.2.2.2.2.2.2.2.2.2.1 Z.2.2.2.2.2.2.2.2.2.2.2.1 μ H) (hS : SS Z.2.2.2.2.2.2.2.2.2.2.2.1 Z.2.2.2.2.1.heap Z.2.2.2.1 μ H locs) {c a idx : Nat} {r : vw_C} {v : Value} {host : String} (hc : zCl[c]? = some r) (k0 : Nat) (hk : k0 < r.2.2) (hF : fPut μ μ1 c a k0 v) (hn : narrow (zty c k0) v = v ∧ fits (zty c k0) v = true) (hf : (r.2.1 k0).2.2.2 = false)
    (hl : (Cond.fieldLinkNest y.cls idx (r.2.1 k0).1 (r.2.1 k0).2.1 (r.2.1 k0).2.2.1 host).before Z.2.2.2.2.2.2.1 Z.2.2.2.2.1 = true) (d : decode cc pc = .ok (.putfield idx, 3))
    (k : ∀ (H1 : Heap) (locs1 : List Loc), RP Z.2.2.2.2.2.2.2.2.2.2.1 Z.2.2.2.2.2.2.2.2.2.2.2.1 μ1 H1 → SS Z.2.2.2.2.2.2.2.2.2.2.2.1 Z.2.2.2.2.1.heap Z.2.2.2.1 μ1 H1 locs1 → W Z.1 Z.2.1 Z.2.2.1 Z.2.2.2.1 Z.2.2.2.2.1 Z.2.2.2.2.2.1 Z.2.2.2.2.2.2.1 Z.2.2.2.2.2.2.2.1 Z.2.2.2.2.2.2.2.2.1 Z.2.2.2.2.2.2.2.2.2.1 H1 locs1 (H1.size - Z.2.2.2.2.1.heap.size) (nsl Z.2.2.2.2.1.heap.size H1) Q (F0 Z.2.2.2.2.2.1 (pc + 3) ls rest)) :
    W Z.1 Z.2.1 Z.2.2.1 Z.2.2.2.1 Z.2.2.2.2.1 Z.2.2.2.2.2.1 Z.2.2.2.2.2.2.1 Z.2.2.2.2.2.2.2.1 Z.2.2.2.2.2.2.2.2.1 Z.2.2.2.2.2.2.2.2.2.1 H locs (H.size - Z.2.2.2.2.1.heap.size) (nsl Z.2.2.2.2.1.heap.size H) Q (F0 Z.2.2.2.2.2.1 pc ls (v :: vO a :: rest)) := by
  have hok := zCl_ok hc
  have hap := va_apart (own := y.cls) (s := Z.2.2.2.2.1) C.hts hok.1 _ hok.2.1 hok.2.2 C.kt.1 hc
  obtain ⟨cell, q1, q2, q3, q4⟩ := (hR.2.1 a).1 c r hc hF.1
  obtain ⟨hS0, hfc, kC, hkC, hkind⟩ := C.kt.1.1 c _ hc
  obtain ⟨cf, kf, fi, f, hi, hsl⟩ := hS0 k0 hk
  have hlay := C.hts _ (hok.1 _ (u_in_lay hk))
  unfold u_lay at hlay
  rw [if_neg (by rw [hf]; decide)] at hlay
  have hst := (u_facts hfc hkC (u_lays C.hts hok.1 hk) hi).1
  have h6 := u_store hfc hkC hkind hlay hi (hok.2.1 k0 hk) hn.1 hn.2
  refine va_WputK C.ex C.by_ (f := f) C.own hl hi hst (by rw [q2]; exact h6) q1 q3 (by rw [hsl]; exact k2_hasslot (q4 k0 hk)) rfl rfl d fun H' e1 e2 e3 => ?_
  rw [hsl] at e1 ⊢
  have hb := hR.2.2 a (by rw [hF.1]; have := zCl_lt hc; omega)
  obtain ⟨g1, g2, g3, g4⟩ := store_ok (k := Z.2.2.2.2.2.2.2.2.2.2.1.2 c k0) hR hS q1 e1 (setSize _ _ _) e2 e3 hF.2.2.1 hF.2.2.2 (okA_put hc hF q2 q3 q4 hk hap e1) hb
  rw [← g3, ← g4]
  exact k H' _ g1 g2
theorem putCF (C : CX Z y cc ret lv nl) (hR : RP Z.2.2.2.2.2.2.2.2.2.2.1 Z.2.2.2.2.2.2.2.2.2.2.2.1 μ H) (hS : SS Z.2.2.2.2.2.2.2.2.2.2.2.1 Z.2.2.2.2.1.heap Z.2.2.2.1 μ H locs) {c a idx : Nat} {r : vw_C} {v : Value} (hc : zCl[c]? = some r) (k0 : Nat) (hk : k0 < r.2.2) (hF : fPut μ μ1 c a k0 v) (hn : narrow (zty c k0) v = v ∧ fits (zty c k0) v = true) (hf : (r.2.1 k0).2.2.2 = true) (hdc : (r.2.1 k0).1 = y.cls) (hin : y.name = "<init>")
    (hl : (Cond.fieldLink y.cls idx (r.2.1 k0).1 (r.2.1 k0).2.1 (r.2.1 k0).2.2.1).before Z.2.2.2.2.2.2.1 Z.2.2.2.2.1 = true) (d : decode cc pc = .ok (.putfield idx, 3))
    (k : ∀ (H1 : Heap) (locs1 : List Loc), RP Z.2.2.2.2.2.2.2.2.2.2.1 Z.2.2.2.2.2.2.2.2.2.2.2.1 μ1 H1 → SS Z.2.2.2.2.2.2.2.2.2.2.2.1 Z.2.2.2.2.1.heap Z.2.2.2.1 μ1 H1 locs1 → W Z.1 Z.2.1 Z.2.2.1 Z.2.2.2.1 Z.2.2.2.2.1 Z.2.2.2.2.2.1 Z.2.2.2.2.2.2.1 Z.2.2.2.2.2.2.2.1 Z.2.2.2.2.2.2.2.2.1 Z.2.2.2.2.2.2.2.2.2.1 H1 locs1 (H1.size - Z.2.2.2.2.1.heap.size) (nsl Z.2.2.2.2.1.heap.size H1) Q (F0 Z.2.2.2.2.2.1 (pc + 3) ls rest)) :
    W Z.1 Z.2.1 Z.2.2.1 Z.2.2.2.1 Z.2.2.2.2.1 Z.2.2.2.2.2.1 Z.2.2.2.2.2.2.1 Z.2.2.2.2.2.2.2.1 Z.2.2.2.2.2.2.2.2.1 Z.2.2.2.2.2.2.2.2.2.1 H locs (H.size - Z.2.2.2.2.1.heap.size) (nsl Z.2.2.2.2.1.heap.size H) Q (F0 Z.2.2.2.2.2.1 pc ls (v :: vO a :: rest)) := by
  have hok := zCl_ok hc
  have hap := va_apart (own := y.cls) (s := Z.2.2.2.2.1) C.hts hok.1 _ hok.2.1 hok.2.2 C.kt.1 hc
  obtain ⟨cell, q1, q2, q3, q4⟩ := (hR.2.1 a).1 c r hc hF.1
  obtain ⟨hS0, hfc, kC, hkC, hkind⟩ := C.kt.1.1 c _ hc
  obtain ⟨cf, kf, fi, f, hi, hsl⟩ := hS0 k0 hk
  have hlay := C.hts _ (hok.1 _ (u_in_lay hk))
  unfold u_lay at hlay
  rw [if_pos hf] at hlay
  have hst := (u_facts hfc hkC (u_lays C.hts hok.1 hk) hi).1
  have hcf : Z.2.2.2.2.2.1.cls = cf := by
    obtain ⟨_, _, c', _, _, _, -, -, hf', -, -, -, hown2, -⟩ := Cond.laysFinal_spec hlay
    have e1 : c' = cf := by have := hi.symm.trans hf'; simp at this; exact this.1.symm
    rw [hdc] at hown2
    rw [← e1]; exact Option.some.inj (C.own.symm.trans hown2)
  have h6 := u_fits hfc hkC hkind (Or.inr hlay) hi (hok.2.1 k0 hk) hn.1 hn.2
  refine W.putFinK C.ex C.by_ C.own hl hi hst hcf (C.nm.trans hin) (by rw [q2]; exact h6) q1 q3 (by rw [hsl]; exact k2_hasslot (q4 k0 hk)) rfl rfl d fun H' e1 e2 e3 => ?_
  rw [hsl] at e1 ⊢
  have hb := hR.2.2 a (by rw [hF.1]; have := zCl_lt hc; omega)
  obtain ⟨g1, g2, g3, g4⟩ := store_ok (k := Z.2.2.2.2.2.2.2.2.2.2.1.2 c k0) hR hS q1 e1 (setSize _ _ _) e2 e3 hF.2.2.1 hF.2.2.2 (okA_put hc hF q2 q3 q4 hk hap e1) hb
  rw [← g3, ← g4]
  exact k H' _ g1 g2
end G
theorem nfJ {c k0 : Nat} {v : Int} (ht : zkJ (zty c k0) = true) : narrow (zty c k0) (vJ v) = vJ v ∧ fits (zty c k0) (vJ v) = true := by
  cases e : zty c k0 <;> first | exact ⟨rfl, rfl⟩ | (rw [e] at ht; cases ht)
theorem nfR {c k0 : Nat} {v : Nat} (ht : zkR (zty c k0) = true) : narrow (zty c k0) (vO v) = vO v ∧ fits (zty c k0) (vO v) = true := by
  cases e : zty c k0 <;> first | exact ⟨rfl, rfl⟩ | (rw [e] at ht; cases ht)
section A
variable {Z : Zt} {μ μ1 : Me} {y : MethodName} {cc : ByteArray} {ret : Option FieldType} {lv nl : Nat} {H : Heap} {locs : List Loc}
abbrev zAld (Z : Zt) (H : Heap) (a : Nat) (j : Int) (v : Value) (ty : FieldType) : Prop := ∃ cell : Cell, H[a]? = some cell ∧ Z.2.2.2.2.1.isArrayOf cell ty ∧ cell.vm ≠ .unknown ∧ ¬ (Int32.ofInt j < 0 ∨ cell.slots.size ≤ (Int32.ofInt j).toNatClampNeg) ∧ cell.slots[(Int32.ofInt j).toNatClampNeg]? = some v
theorem ald_ok (C : CX Z y cc ret lv nl) (hR : RP Z.2.2.2.2.2.2.2.2.2.2.1 Z.2.2.2.2.2.2.2.2.2.2.2.1 μ H) {a t kt : Nat} {j : Int} {ty : FieldType} (ht : (zTy Z.2.2.2.2.2.2.2.2.2.2.1)[kt]? = some (Z.2.2.2.2.2.2.2.2.2.2.1.1 t, ty)) (l1 : 101 ≤ t) (l2 : t ≤ 107) (h : μ.1.2.1 a = t ∧ 0 ≤ w32 j ∧ w32 j < μ.1.2.2.1 a) : zAld Z H a j (aV μ t a (w32 j).toNat) ty := by
  obtain ⟨h1, h2, h3⟩ := h
  obtain ⟨g1, g2, g3⟩ := (hR.2.1 a).2 t l1 l2 h1
  refine ⟨_, g1, (C.kt.1.2 kt _ ht).1 _ _, fun q => (by cases q), ?_, ?_⟩
  · rw [arrV_size]
    exact z_in h2 h3
  · rw [z_clamp]
    exact arrV_read _ _ (by omega)
theorem aldI_ok (C : CX Z y cc ret lv nl) (hR : RP Z.2.2.2.2.2.2.2.2.2.2.1 Z.2.2.2.2.2.2.2.2.2.2.2.1 μ H) {a : Nat} {j v : Int} (h : aI μ 101 a j = some v) : zAld Z H a j (vI v) .int := by
  obtain ⟨h1, h2⟩ := ib_ h
  subst h2
  have h3 := ald_ok C hR (kt := 0) rfl (by decide) (by decide) h1
  rw [show aV μ 101 a (w32 j).toNat = vI (μ.2.1 a (w32 j)) from by show vI _ = _; rw [Int.toNat_of_nonneg h1.2.1]] at h3
  exact h3
theorem aldB_ok (C : CX Z y cc ret lv nl) (hR : RP Z.2.2.2.2.2.2.2.2.2.2.1 Z.2.2.2.2.2.2.2.2.2.2.2.1 μ H) {a : Nat} {j v : Int} (h : aI μ 102 a j = some v) : zAld Z H a j (vI v) .byte := by
  obtain ⟨h1, h2⟩ := ib_ h
  subst h2
  have h3 := ald_ok C hR (kt := 1) rfl (by decide) (by decide) h1
  rw [show aV μ 102 a (w32 j).toNat = vI (μ.2.1 a (w32 j)) from by show vI _ = _; rw [Int.toNat_of_nonneg h1.2.1]] at h3
  exact h3
theorem aldJ_ok (C : CX Z y cc ret lv nl) (hR : RP Z.2.2.2.2.2.2.2.2.2.2.1 Z.2.2.2.2.2.2.2.2.2.2.2.1 μ H) {a : Nat} {j v : Int} (h : aJ μ 103 a j = some v) : zAld Z H a j (vJ v) .long := by
  obtain ⟨h1, h2⟩ := ib_ h
  subst h2
  have h3 := ald_ok C hR (kt := 2) rfl (by decide) (by decide) h1
  rw [show aV μ 103 a (w32 j).toNat = vJ (μ.2.2 a (w32 j)) from by show vJ _ = _; rw [Int.toNat_of_nonneg h1.2.1]] at h3
  exact h3
theorem aldR_ok (C : CX Z y cc ret lv nl) (hR : RP Z.2.2.2.2.2.2.2.2.2.2.1 Z.2.2.2.2.2.2.2.2.2.2.2.1 μ H) {a t kt v : Nat} {j : Int} {ty : FieldType} (h4 : 104 ≤ t ∧ t ≤ 107) (ht : (zTy Z.2.2.2.2.2.2.2.2.2.2.1)[kt]? = some (Z.2.2.2.2.2.2.2.2.2.2.1.1 t, ty)) (h : aR μ t a j = some v) : zAld Z H a j (vO v) ty := by
  unfold aR at h
  by_cases h1 : μ.1.2.1 a = t ∧ 0 ≤ w32 j ∧ w32 j < μ.1.2.2.1 a
  · rw [if_pos h1] at h
    have h3 := ald_ok C hR ht (by omega) h4.2 h1
    rw [show aV μ t a (w32 j).toNat = vO v from by
      unfold aV
      rw [if_neg (by omega), if_neg (by omega), Int.toNat_of_nonneg h1.2.1, h]; rfl] at h3
    exact h3
  · rw [if_neg h1] at h; cases h
def aL (μ : Me) (a : Nat) : Option Int := if μ.1.2.1 a = 101 then some (μ.1.2.2.1 a) else none
theorem alen_ok (C : CX Z y cc ret lv nl) (hR : RP Z.2.2.2.2.2.2.2.2.2.2.1 Z.2.2.2.2.2.2.2.2.2.2.2.1 μ H) {a : Nat} {v : Int} (h : aL μ a = some v) : ∃ (cell : Cell) (ty : FieldType), H[a]? = some cell ∧ Z.2.2.2.2.1.isArrayOf cell ty ∧ cell.slots.size.toInt32 = Int32.ofInt v := by
  obtain ⟨h1, h2⟩ := ib_ h
  subst h2
  obtain ⟨g1, g2, g3⟩ := (hR.2.1 a).2 101 (by decide) (by decide) h1
  refine ⟨_, .int, g1, (C.kt.1.2 0 _ rfl).1 _ _, ?_⟩
  rw [arrV_size]
  show Int32.ofNat _ = _
  rw [← Int32.ofInt_eq_ofNat, Int.toNat_of_nonneg g2]
/-- a store into an array -/
theorem ast_ok (C : CX Z y cc ret lv nl) (hR : RP Z.2.2.2.2.2.2.2.2.2.2.1 Z.2.2.2.2.2.2.2.2.2.2.2.1 μ H) (hS : SS Z.2.2.2.2.2.2.2.2.2.2.2.1 Z.2.2.2.2.1.heap Z.2.2.2.1 μ H locs) {a t kt : Nat} {j : Int} {ty : FieldType} {x : Value} (ht : (zTy Z.2.2.2.2.2.2.2.2.2.2.1)[kt]? = some (Z.2.2.2.2.2.2.2.2.2.2.1.1 t, ty)) (l1 : 101 ≤ t) (l2 : t ≤ 107) (h : μ.1.2.1 a = t ∧ 0 ≤ w32 j ∧ w32 j < μ.1.2.2.1 a)
    (hs : μ1.1.1 = μ.1.1 ∧ μ1.1.2.1 = μ.1.2.1 ∧ μ1.1.2.2.1 = μ.1.2.2.1) (ho : ∀ q : Nat, q ≠ a → μ1.1.2.2.2 q = μ.1.2.2.2 q ∧ μ1.2.1 q = μ.2.1 q ∧ μ1.2.2 q = μ.2.2 q) (hv : aV μ1 t a = updV (aV μ t a) (w32 j).toNat x) :
    ∃ cell : Cell, H[a]? = some cell ∧ Z.2.2.2.2.1.isArrayOf cell ty ∧ cell.vm ≠ .unknown ∧ ¬ (Int32.ofInt j < 0 ∨ cell.slots.size ≤ (Int32.ofInt j).toNatClampNeg) ∧ ∀ H1 : Heap, H1[a]? = some (cell.setSlot (Int32.ofInt j).toNatClampNeg x) → H1.size = H.size → (∀ q : Nat, q ≠ a → H1[q]? = H[q]?) →
      RP Z.2.2.2.2.2.2.2.2.2.2.1 Z.2.2.2.2.2.2.2.2.2.2.2.1 μ1 H1 ∧ SS Z.2.2.2.2.2.2.2.2.2.2.2.1 Z.2.2.2.2.1.heap Z.2.2.2.1 μ1 H1 (locs ++ [⟨a, (Int32.ofInt j).toNatClampNeg⟩]) ∧ H1.size = H.size ∧ nsl Z.2.2.2.2.1.heap.size H1 = nsl Z.2.2.2.2.1.heap.size H := by
  obtain ⟨h1, h2, h3⟩ := h
  obtain ⟨g1, g2, g3⟩ := (hR.2.1 a).2 t l1 l2 h1
  refine ⟨_, g1, (C.kt.1.2 kt _ ht).1 _ _, fun q => (by cases q), by rw [arrV_size]; exact z_in h2 h3, fun H1 e1 e2 e3 => ?_⟩
  refine store_ok hR hS g1 e1 (setSize _ _ _) e2 e3 hs ho ⟨fun c r hc hty => ?_, fun t' l1' l2' hty => ?_⟩ (hR.2.2 a (by omega))
  · rw [hs.2.1, h1] at hty
    have := zCl_lt hc
    omega
  · rw [hs.2.1, h1] at hty
    subst hty
    rw [hs.2.2]
    refine ⟨?_, g2, g3⟩
    rw [e1, arrV_store, z_clamp, hv]
theorem iast_ok (C : CX Z y cc ret lv nl) (hR : RP Z.2.2.2.2.2.2.2.2.2.2.1 Z.2.2.2.2.2.2.2.2.2.2.2.1 μ H) (hS : SS Z.2.2.2.2.2.2.2.2.2.2.2.1 Z.2.2.2.2.1.heap Z.2.2.2.1 μ H locs) {a : Nat} {j x : Int} (h : uI μ a j x = some μ1) :
    ∃ cell : Cell, H[a]? = some cell ∧ Z.2.2.2.2.1.isArrayOf cell .int ∧ cell.vm ≠ .unknown ∧ ¬ (Int32.ofInt j < 0 ∨ cell.slots.size ≤ (Int32.ofInt j).toNatClampNeg) ∧ ∀ H1 : Heap, H1[a]? = some (cell.setSlot (Int32.ofInt j).toNatClampNeg (vI x)) → H1.size = H.size → (∀ q : Nat, q ≠ a → H1[q]? = H[q]?) →
      RP Z.2.2.2.2.2.2.2.2.2.2.1 Z.2.2.2.2.2.2.2.2.2.2.2.1 μ1 H1 ∧ SS Z.2.2.2.2.2.2.2.2.2.2.2.1 Z.2.2.2.2.1.heap Z.2.2.2.1 μ1 H1 (locs ++ [⟨a, (Int32.ofInt j).toNatClampNeg⟩]) ∧ H1.size = H.size ∧ nsl Z.2.2.2.2.1.heap.size H1 = nsl Z.2.2.2.2.1.heap.size H := by
  obtain ⟨h1, h2⟩ := ib_ h
  subst h2
  refine ast_ok C hR hS (kt := 0) (t := 101) rfl (by decide) (by decide) h1 ⟨rfl, rfl, rfl⟩ (fun q hq => ⟨rfl, up1_n _ _ hq, rfl⟩) ?_
  funext q
  unfold updV
  show vI _ = if _ then _ else vI _
  have := h1.2.1
  by_cases e : q = (w32 j).toNat
  · rw [if_pos e]
    have e2 : (q : Int) = w32 j := by omega
    simp [sI, up1, upz, e2]
  · rw [if_neg e]
    have e2 : ¬ (q : Int) = w32 j := by omega
    simp [sI, up1, upz, e2]
theorem last_ok (C : CX Z y cc ret lv nl) (hR : RP Z.2.2.2.2.2.2.2.2.2.2.1 Z.2.2.2.2.2.2.2.2.2.2.2.1 μ H) (hS : SS Z.2.2.2.2.2.2.2.2.2.2.2.1 Z.2.2.2.2.1.heap Z.2.2.2.1 μ H locs) {a : Nat} {j x : Int} (h : uJ μ a j x = some μ1) :
    ∃ cell : Cell, H[a]? = some cell ∧ Z.2.2.2.2.1.isArrayOf cell .long ∧ cell.vm ≠ .unknown ∧ ¬ (Int32.ofInt j < 0 ∨ cell.slots.size ≤ (Int32.ofInt j).toNatClampNeg) ∧ ∀ H1 : Heap, H1[a]? = some (cell.setSlot (Int32.ofInt j).toNatClampNeg (vJ x)) → H1.size = H.size → (∀ q : Nat, q ≠ a → H1[q]? = H[q]?) →
      RP Z.2.2.2.2.2.2.2.2.2.2.1 Z.2.2.2.2.2.2.2.2.2.2.2.1 μ1 H1 ∧ SS Z.2.2.2.2.2.2.2.2.2.2.2.1 Z.2.2.2.2.1.heap Z.2.2.2.1 μ1 H1 (locs ++ [⟨a, (Int32.ofInt j).toNatClampNeg⟩]) ∧ H1.size = H.size ∧ nsl Z.2.2.2.2.1.heap.size H1 = nsl Z.2.2.2.2.1.heap.size H := by
  obtain ⟨h1, h2⟩ := ib_ h
  subst h2
  refine ast_ok C hR hS (kt := 2) (t := 103) rfl (by decide) (by decide) h1 ⟨rfl, rfl, rfl⟩ (fun q hq => ⟨rfl, rfl, up1_n _ _ hq⟩) ?_
  funext q
  unfold updV
  show vJ _ = if _ then _ else vJ _
  have := h1.2.1
  by_cases e : q = (w32 j).toNat
  · rw [if_pos e]
    have e2 : (q : Int) = w32 j := by omega
    simp [sJ, up1, upz, e2]
  · rw [if_neg e]
    have e2 : ¬ (q : Int) = w32 j := by omega
    simp [sJ, up1, upz, e2]
theorem bast_ok (C : CX Z y cc ret lv nl) (hR : RP Z.2.2.2.2.2.2.2.2.2.2.1 Z.2.2.2.2.2.2.2.2.2.2.2.1 μ H) (hS : SS Z.2.2.2.2.2.2.2.2.2.2.2.1 Z.2.2.2.2.1.heap Z.2.2.2.1 μ H locs) {a : Nat} {j x : Int} (h : uB μ a j x = some μ1) :
    ∃ cell : Cell, H[a]? = some cell ∧ Z.2.2.2.2.1.isArrayOf cell .byte ∧ cell.vm ≠ .unknown ∧ ¬ (Int32.ofInt j < 0 ∨ cell.slots.size ≤ (Int32.ofInt j).toNatClampNeg) ∧ ∀ H1 : Heap, H1[a]? = some (cell.setSlot (Int32.ofInt j).toNatClampNeg (.int (Int32.ofInt x).toInt8.toInt32)) → H1.size = H.size → (∀ q : Nat, q ≠ a → H1[q]? = H[q]?) →
      RP Z.2.2.2.2.2.2.2.2.2.2.1 Z.2.2.2.2.2.2.2.2.2.2.2.1 μ1 H1 ∧ SS Z.2.2.2.2.2.2.2.2.2.2.2.1 Z.2.2.2.2.1.heap Z.2.2.2.1 μ1 H1 (locs ++ [⟨a, (Int32.ofInt j).toNatClampNeg⟩]) ∧ H1.size = H.size ∧ nsl Z.2.2.2.2.1.heap.size H1 = nsl Z.2.2.2.2.1.heap.size H := by
  obtain ⟨h1, h2⟩ := ib_ h
  subst h2
  refine ast_ok C hR hS (kt := 1) (t := 102) rfl (by decide) (by decide) h1 ⟨rfl, rfl, rfl⟩ (fun q hq => ⟨rfl, up1_n _ _ hq, rfl⟩) ?_
  rw [i2b_ok]
  funext q
  unfold updV
  show vI _ = if _ then _ else vI _
  have := h1.2.1
  by_cases e : q = (w32 j).toNat
  · rw [if_pos e]
    have e2 : (q : Int) = w32 j := by omega
    simp [sI, up1, upz, e2]
  · rw [if_neg e]
    have e2 : ¬ (q : Int) = w32 j := by omega
    simp [sI, up1, upz, e2]
end A

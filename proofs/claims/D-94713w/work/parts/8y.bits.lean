/-! bits of a set, prefixes of a set of signs -/
set_option maxRecDepth 100000
theorem ur_sr (z : Int) : anI (urI z 16) 32767 = anI (srI z 16) 32767 := by
  unfold anI urI srI
  rw [Int32.ofInt_toInt, Int32.ofInt_toInt]
  congr 1
  apply Int32.toBitVec.inj
  obtain ⟨x, hx⟩ : ∃ x : Int32, Int32.ofInt z = x := ⟨_, rfl⟩
  rw [hx]
  rw [Int32.toBitVec_and, Int32.toBitVec_and]
  apply BitVec.eq_of_getLsbD_eq
  intro i hi
  rw [BitVec.getLsbD_and, BitVec.getLsbD_and]
  by_cases h : i < 15
  · congr 1
    show (x.toBitVec >>> (16 : Nat)).getLsbD i = (x.toBitVec.sshiftRight 16).getLsbD i
    rw [BitVec.getLsbD_ushiftRight, BitVec.getLsbD_sshiftRight]
    rw [if_pos (by omega), decide_eq_false (show ¬ 32 ≤ i by omega)]
    rfl
  · have : (Int32.ofInt 32767).toBitVec.getLsbD i = false := by
      have key : ∀ j : Nat, j < 32 → 15 ≤ j → (Int32.ofInt 32767).toBitVec.getLsbD j = false := by decide
      exact key i hi (by omega)
    rw [this, Bool.and_false, Bool.and_false]
def bitA (a : Int) (k : Nat) : Bool := (Int32.ofInt a).toBitVec.getLsbD k
theorem sel_bit (a : Int) : ∀ k : Nat, k < 8 → anI (srI a k) 1 = if bitA a k = true then 1 else 0 := by
  intro k hk
  obtain ⟨x, hx⟩ : ∃ x : Int32, Int32.ofInt a = x := ⟨_, rfl⟩
  unfold anI srI bitA
  rw [Int32.ofInt_toInt, hx]
  have e : (x >>> (Int32.ofInt k &&& 31) &&& Int32.ofInt 1).toBitVec = if x.toBitVec.getLsbD k = true then 1#32 else 0#32 := by
    rw [Int32.toBitVec_and]
    apply BitVec.eq_of_getLsbD_eq
    intro i hi
    rw [BitVec.getLsbD_and]
    by_cases h : i = 0
    · subst h
      have : (x >>> (Int32.ofInt (k : Int) &&& 31)).toBitVec.getLsbD 0 = x.toBitVec.getLsbD k := by
        have key : ∀ k : Nat, k < 8 → (Int32.ofInt (k : Int) &&& 31).toBitVec.smod 32 = BitVec.ofNat 32 k := by decide
        rw [Int32.toBitVec_shiftRight, key k hk]
        show (x.toBitVec.sshiftRight _).getLsbD 0 = _
        rw [BitVec.getLsbD_sshiftRight, BitVec.toNat_ofNat]
        have : k % 2 ^ 32 = k := Nat.mod_eq_of_lt (by omega)
        rw [this]
        simp
        omega
      rw [this]
      cases x.toBitVec.getLsbD k <;> simp
    · have h1 : (Int32.ofInt 1).toBitVec.getLsbD i = false := by
        have key : ∀ j : Nat, j < 32 → j ≠ 0 → (Int32.ofInt 1).toBitVec.getLsbD j = false := by decide
        exact key i hi h
      rw [h1, Bool.and_false]
      split
      · have key : ∀ j : Nat, j < 32 → j ≠ 0 → (1#32).getLsbD j = false := by decide
        exact (key i hi h).symm
      · simp
  have e2 : x >>> (Int32.ofInt (k : Int) &&& 31) &&& Int32.ofInt 1 = if x.toBitVec.getLsbD k = true then 1 else 0 := by
    apply Int32.toBitVec.inj
    rw [e]
    split <;> rfl
  rw [e2]
  split <;> rfl
theorem bit_mask (a : Int) {s k : Nat} (hs : s < 8) (hk : k < 8) : bitA (anI a (slI 2 s - 1)) k = (bitA a k && decide (k ≤ s)) := by
  have key : ∀ s : Nat, s < 8 → ∀ k : Nat, k < 8 → (Int32.ofInt (slI 2 s - 1)).toBitVec.getLsbD k = decide (k ≤ s) := by decide +kernel
  unfold bitA anI
  rw [Int32.ofInt_toInt, Int32.toBitVec_and, BitVec.getLsbD_and, key s hs k hk]
/-- the twin's way, state by state: rows, how many, bits, degree -/
abbrev Sz : Type := (Nat → Int → Int) × Nat × Int × Int
def bsS (p seed : Int) (d : Nat) (ts : Tg) (s : Nat) (sel : Bool) (z : Sz) : Option Sz :=
  if sel = false then some z
  else match Tr.dg d (ts s).1 (ts s).2 with
    | none => none
    | some e =>
      if z.2.2.2 ≠ -1 ∧ z.2.2.2 ≠ e then none
      else if ldZ p (rdN p (12 * (e + 1)) z.1 z.2.1 (rwV p seed d e (ts s).1 (ts s).2)) (12 * (e + 1)) 0 < 12 * (e + 1) then
        some ((fun r => if r = z.2.1 then rdN p (12 * (e + 1)) z.1 z.2.1 (rwV p seed d e (ts s).1 (ts s).2) else z.1 r), z.2.1 + 1, orI z.2.2.1 (slI 1 s), (e : Int))
      else some (z.1, z.2.1, z.2.2.1, (e : Int))
def bsZ (p seed : Int) (d : Nat) (ts : Tg) (sel : Nat → Bool) : Nat → Option Sz
  | 0 => some (fun _ _ => 0, 0, 0, -1)
  | s + 1 => (bsZ p seed d ts sel s).bind (bsS p seed d ts s (sel s))
def selO (set : Int) (s : Nat) : Bool := decide (anI (srI set s) 1 ≠ 0)
theorem bsZ_none {p seed : Int} {d : Nat} {ts : Tg} {sel : Nat → Bool} {s : Nat} (h : bsZ p seed d ts sel s = none) : ∀ k, bsZ p seed d ts sel (s + k) = none
  | 0 => h
  | k + 1 => by
    show (bsZ p seed d ts sel (s + k)).bind _ = none
    rw [bsZ_none h k]
    rfl
theorem bsR_eq {p seed : Int} {d : Nat} {set : Int} {ts : Tg} : ∀ (k s : Nat) (z : Sz), bsZ p seed d ts (selO set) s = some z → bsR p seed d set ts k s z.1 z.2.1 z.2.2.1 z.2.2.2 = (bsZ p seed d ts (selO set) (s + k)).map fun z => (z.2.1, z.2.2.1)
  | 0, s, z, h => by
    show some (z.2.1, z.2.2.1) = (bsZ p seed d ts (selO set) s).map _
    rw [h]
    rfl
  | k + 1, s, z, h => by
    have e1 : bsZ p seed d ts (selO set) (s + 1) = bsS p seed d ts s (selO set s) z := by
      show (bsZ p seed d ts (selO set) s).bind _ = _
      rw [h]
      rfl
    have ek : s + (k + 1) = s + 1 + k := by omega
    rw [ek]
    unfold bsR
    by_cases c : anI (srI set s) 1 = 0
    · rw [if_pos c]
      have : bsS p seed d ts s (selO set s) z = some z := by
        unfold bsS selO
        rw [decide_eq_false (fun g => g c), if_pos rfl]
      exact bsR_eq k (s + 1) z (e1.trans this)
    · rw [if_neg c]
      have hs : selO set s = true := decide_eq_true c
      unfold bsS at e1
      rw [hs, if_neg (by decide)] at e1
      cases hd : Tr.dg d (ts s).1 (ts s).2 with
      | none =>
        rw [hd] at e1
        rw [bsZ_none e1 k]
        rfl
      | some e =>
        rw [hd] at e1
        dsimp only at e1 ⊢
        by_cases c2 : z.2.2.2 ≠ -1 ∧ z.2.2.2 ≠ e
        · rw [if_pos c2] at e1 ⊢
          rw [bsZ_none e1 k]
          rfl
        · rw [if_neg c2] at e1 ⊢
          by_cases c3 : ldZ p (rdN p (12 * (e + 1)) z.1 z.2.1 (rwV p seed d e (ts s).1 (ts s).2)) (12 * (e + 1)) 0 < 12 * (e + 1)
          · rw [if_pos c3] at e1 ⊢
            exact bsR_eq k (s + 1) _ e1
          · rw [if_neg c3] at e1 ⊢
            exact bsR_eq k (s + 1) _ e1
theorem bsP_eq {p seed : Int} {d : Nat} {set : Int} {ts : Tg} (n : Nat) : bsP p seed d set ts n = (bsZ p seed d ts (selO set) n).map fun z => (z.2.1, z.2.2.1) := by
  have := bsR_eq (p := p) (seed := seed) (d := d) (set := set) (ts := ts) n 0 (fun _ _ => 0, 0, 0, -1) rfl
  rw [Nat.zero_add] at this
  exact this
theorem bsZ_congr {p seed : Int} {d : Nat} {ts : Tg} {sel sel' : Nat → Bool} : ∀ n : Nat, (∀ s, s < n → sel s = sel' s) → bsZ p seed d ts sel n = bsZ p seed d ts sel' n
  | 0, _ => rfl
  | n + 1, h => by
    show (bsZ p seed d ts sel n).bind (bsS p seed d ts n (sel n)) = (bsZ p seed d ts sel' n).bind (bsS p seed d ts n (sel' n))
    rw [bsZ_congr n (fun s hs => h s (by omega)), h n (by omega)]
theorem bsZ_off {p seed : Int} {d : Nat} {ts : Tg} {sel : Nat → Bool} {m : Nat} : ∀ k : Nat, (∀ s, m ≤ s → s < m + k → sel s = false) → bsZ p seed d ts sel (m + k) = bsZ p seed d ts sel m
  | 0, _ => rfl
  | k + 1, h => by
    show (bsZ p seed d ts sel (m + k)).bind (bsS p seed d ts (m + k) (sel (m + k))) = _
    rw [bsZ_off k (fun s a b => h s a (by omega)), h (m + k) (by omega) (by omega)]
    have : bsS p seed d ts (m + k) false = some := rfl
    rw [this]
    cases bsZ p seed d ts sel m <;> rfl
theorem selO_bit (set : Int) {s : Nat} (hs : s < 8) : selO set s = bitA set s := by
  unfold selO
  rw [sel_bit set s hs]
  cases bitA set s <;> rfl
/-- a set's part up to s -/
theorem bsZ_mask {p seed : Int} {d : Nat} {set : Int} {ts : Tg} {n s : Nat} (hn : n ≤ 8) (hs : s < n) : bsZ p seed d ts (selO (anI set (slI 2 s - 1))) n = bsZ p seed d ts (selO set) (s + 1) := by
  have h1 : ∀ k, k < 8 → selO (anI set (slI 2 s - 1)) k = (selO set k && decide (k ≤ s)) := fun k hk => by
    rw [selO_bit _ hk, selO_bit _ hk, bit_mask set (by omega) hk]
  obtain ⟨k, rfl⟩ : ∃ k, n = s + 1 + k := ⟨n - (s + 1), by omega⟩
  rw [bsZ_off k (fun j a b => by rw [h1 j (by omega), decide_eq_false (show ¬ j ≤ s by omega), Bool.and_false])]
  exact bsZ_congr (s + 1) (fun j hj => by rw [h1 j (by omega), decide_eq_true (show j ≤ s by omega), Bool.and_true])

/-! THE WALK'S OWN KIT: whole numbers for ints and longs, one memory for all cells, one judgement -/
set_option maxRecDepth 100000
def w32 (x : Int) : Int := (x + 2147483648) % 4294967296 - 2147483648
def w64 (x : Int) : Int := (x + 9223372036854775808) % 18446744073709551616 - 9223372036854775808
def w8 (x : Int) : Int := (x + 128) % 256 - 128
theorem w32_eq (x : Int) : (Int32.ofInt x).toInt = w32 x := by
  rw [Int32.toInt_ofInt]
  show Int.bmod x 4294967296 = _
  unfold Int.bmod w32
  dsimp only
  split <;> omega
theorem w64_eq (x : Int) : (Int64.ofInt x).toInt = w64 x := by
  rw [Int64.toInt_ofInt]
  show Int.bmod x 18446744073709551616 = _
  unfold Int.bmod w64
  dsimp only
  split <;> omega
theorem w8_eq (x : Int) : (Int8.ofInt x).toInt = w8 x := by
  rw [Int8.toInt_ofInt]
  show Int.bmod x 256 = _
  unfold Int.bmod w8
  dsimp only
  split <;> omega
theorem w32_id {x : Int} (h : -2147483648 ≤ x) (h2 : x < 2147483648) : w32 x = x := by unfold w32; omega
theorem w64_id {x : Int} (h : -9223372036854775808 ≤ x) (h2 : x < 9223372036854775808) : w64 x = x := by unfold w64; omega
theorem w8_id {x : Int} (h : -128 ≤ x) (h2 : x < 128) : w8 x = x := by unfold w8; omega
theorem w32_lo (x : Int) : -2147483648 ≤ w32 x := by unfold w32; omega
theorem w32_hi (x : Int) : w32 x < 2147483648 := by unfold w32; omega
theorem w32_w32 (x : Int) : w32 (w32 x) = w32 x := w32_id (w32_lo x) (w32_hi x)
theorem z_inj {a b : Int} : Int32.ofInt a = Int32.ofInt b ↔ w32 a = w32 b := by rw [← Int32.toInt_inj, w32_eq, w32_eq]
theorem z_injL {a b : Int} : Int64.ofInt a = Int64.ofInt b ↔ w64 a = w64 b := by rw [← Int64.toInt_inj, w64_eq, w64_eq]
theorem z_w32 (a : Int) : Int32.ofInt (w32 a) = Int32.ofInt a := z_inj.mpr (w32_w32 a)
theorem z_lt {a b : Int} : Int32.ofInt a < Int32.ofInt b ↔ w32 a < w32 b := by rw [Int32.lt_iff_toInt_lt, w32_eq, w32_eq]
theorem z_le {a b : Int} : Int32.ofInt a ≤ Int32.ofInt b ↔ w32 a ≤ w32 b := by rw [Int32.le_iff_toInt_le, w32_eq, w32_eq]
theorem z_0 : (0 : Int32) = Int32.ofInt 0 := by decide
theorem z_clamp (x : Int) : (Int32.ofInt x).toNatClampNeg = (w32 x).toNat := by
  rw [← w32_eq]; rfl
abbrev vI (x : Int) : Value := .int (Int32.ofInt x)
abbrev vJ (x : Int) : Value := .long (Int64.ofInt x)
abbrev vO (a : Nat) : Value := .ref a
theorem z_in {j n : Int} (h0 : 0 ≤ w32 j) (h1 : w32 j < n) : ¬ (Int32.ofInt j < 0 ∨ n.toNat ≤ (Int32.ofInt j).toNatClampNeg) := by
  rw [z_0, z_lt, z_clamp, show w32 0 = 0 from rfl]
  omega
/-- memory: (next address, cells left, slots left), what lies at an address (a class's number; 99 nothing known; 101 int[], 102 byte[], 103 long[], 104 Form[], 105 int[][], 106 Sign[], 107 Act[]), lengths, references, ints, longs -/
abbrev Sh : Type := (Nat × Nat × Nat) × (Nat → Nat) × (Nat → Int) × (Nat → Int → Option Nat)
abbrev Me : Type := Sh × (Nat → Int → Int) × (Nat → Int → Int)
def up1 {α : Type} (f : Nat → α) (a : Nat) (v : α) : Nat → α := fun q => if q = a then v else f q
def upz {α : Type} (f : Int → α) (k : Int) (v : α) : Int → α := fun j => if j = k then v else f j
theorem up1_s {α : Type} (f : Nat → α) (a : Nat) (v : α) : up1 f a v a = v := if_pos rfl
theorem up1_n {α : Type} (f : Nat → α) {a q : Nat} (v : α) (h : q ≠ a) : up1 f a v q = f q := if_neg h
theorem upz_s {α : Type} (f : Int → α) (a : Int) (v : α) : upz f a v a = v := if_pos rfl
theorem upz_n {α : Type} (f : Int → α) {a q : Int} (v : α) (h : q ≠ a) : upz f a v q = f q := if_neg h
def sI (μ : Me) (a : Nat) (g : Int → Int) : Me := (μ.1, up1 μ.2.1 a g, μ.2.2)
def sJ (μ : Me) (a : Nat) (g : Int → Int) : Me := (μ.1, μ.2.1, up1 μ.2.2 a g)
def sR (μ : Me) (a : Nat) (g : Int → Option Nat) : Me := ((μ.1.1, μ.1.2.1, μ.1.2.2.1, up1 μ.1.2.2.2 a g), μ.2)
/-- is it of this kind -/
def ck (μ : Me) (c a : Nat) : Option Unit := if μ.1.2.1 a = c then some () else none
def gI (μ : Me) (c a : Nat) (k : Int) : Option Int := if μ.1.2.1 a = c then some (μ.2.1 a k) else none
def gJ (μ : Me) (c a : Nat) (k : Int) : Option Int := if μ.1.2.1 a = c then some (μ.2.2 a k) else none
def gR (μ : Me) (c a : Nat) (k : Int) : Option Nat := if μ.1.2.1 a = c then μ.1.2.2.2 a k else none
def pI (μ : Me) (c a : Nat) (k : Int) (v : Int) : Option Me := if μ.1.2.1 a = c then some (sI μ a (upz (μ.2.1 a) k v)) else none
def pJ (μ : Me) (c a : Nat) (k : Int) (v : Int) : Option Me := if μ.1.2.1 a = c then some (sJ μ a (upz (μ.2.2 a) k v)) else none
def pR (μ : Me) (c a : Nat) (k : Int) (v : Nat) : Option Me := if μ.1.2.1 a = c then some (sR μ a (upz (μ.1.2.2.2 a) k (some v))) else none
def inA (μ : Me) (t a : Nat) (j : Int) : Prop := μ.1.2.1 a = t ∧ 0 ≤ w32 j ∧ w32 j < μ.1.2.2.1 a
def aI (μ : Me) (t a : Nat) (j : Int) : Option Int := if μ.1.2.1 a = t ∧ 0 ≤ w32 j ∧ w32 j < μ.1.2.2.1 a then some (μ.2.1 a (w32 j)) else none
def aJ (μ : Me) (t a : Nat) (j : Int) : Option Int := if μ.1.2.1 a = t ∧ 0 ≤ w32 j ∧ w32 j < μ.1.2.2.1 a then some (μ.2.2 a (w32 j)) else none
def aR (μ : Me) (t a : Nat) (j : Int) : Option Nat := if μ.1.2.1 a = t ∧ 0 ≤ w32 j ∧ w32 j < μ.1.2.2.1 a then μ.1.2.2.2 a (w32 j) else none
def uI (μ : Me) (a : Nat) (j v : Int) : Option Me := if μ.1.2.1 a = 101 ∧ 0 ≤ w32 j ∧ w32 j < μ.1.2.2.1 a then some (sI μ a (upz (μ.2.1 a) (w32 j) v)) else none
def uB (μ : Me) (a : Nat) (j v : Int) : Option Me := if μ.1.2.1 a = 102 ∧ 0 ≤ w32 j ∧ w32 j < μ.1.2.2.1 a then some (sI μ a (upz (μ.2.1 a) (w32 j) (w8 v))) else none
def uJ (μ : Me) (a : Nat) (j v : Int) : Option Me := if μ.1.2.1 a = 103 ∧ 0 ≤ w32 j ∧ w32 j < μ.1.2.2.1 a then some (sJ μ a (upz (μ.2.2 a) (w32 j) v)) else none
/-- an object of kind c goes into an array of kind t -/
def uR (μ : Me) (t c a : Nat) (j : Int) (v : Nat) : Option Me := if μ.1.2.1 v = c ∧ μ.1.2.1 a = t ∧ 0 ≤ w32 j ∧ w32 j < μ.1.2.2.1 a then some (sR μ a (upz (μ.1.2.2.2 a) (w32 j) (some v))) else none
/-- a new cell of kind c (n: its length) and so many slots -/
def nC (μ : Me) (c : Nat) (n : Int) (N : Nat) : Option (Nat × Me) :=
  if 1 ≤ μ.1.1.2.1 ∧ N ≤ μ.1.1.2.2 then
    some (μ.1.1.1, (((μ.1.1.1 + 1, μ.1.1.2.1 - 1, μ.1.1.2.2 - N), up1 μ.1.2.1 μ.1.1.1 c, up1 μ.1.2.2.1 μ.1.1.1 n, up1 μ.1.2.2.2 μ.1.1.1 (fun _ => none)), up1 μ.2.1 μ.1.1.1 (fun _ => 0), up1 μ.2.2 μ.1.1.1 (fun _ => 0)))
  else none
def nO (μ : Me) (c N : Nat) : Option (Nat × Me) := nC μ c 0 N
/-- a new array of kind t -/
def nA (μ : Me) (t : Nat) (n : Int) : Option (Nat × Me) := if 0 ≤ w32 n ∧ w32 n < 60000000 then nC μ t (w32 n) (w32 n).toNat else none
def cpz {α : Type} (f g : Int → α) (sp dp n : Int) : Int → α := fun k => if dp ≤ k ∧ k < dp + n then f (sp + (k - dp)) else g k
-- options, one by one
theorem bs {α β : Type} {x : Option α} {f : α → Option β} {w : β} (h : x.bind f = some w) : ∃ v, x = some v ∧ f v = some w := by
  cases x with
  | none => cases h
  | some v => exact ⟨v, rfl, h⟩
theorem it_ {c : Prop} [Decidable c] {α : Type} {a b w : α} (h : (if c then a else b) = w) (hc : c) : a = w := by rw [if_pos hc] at h; exact h
theorem ie_ {c : Prop} [Decidable c] {α : Type} {a b w : α} (h : (if c then a else b) = w) (hc : ¬ c) : b = w := by rw [if_neg hc] at h; exact h
theorem ib_ {c : Prop} [Decidable c] {α : Type} {a w : α} (h : (if c then some a else none) = some w) : c ∧ a = w := by
  by_cases hc : c
  · rw [if_pos hc] at h; exact ⟨hc, Option.some.inj h⟩
  · rw [if_neg hc] at h; cases h
theorem ms_ {α β : Type} {x : Option α} {f : α → β} {w : β} (h : x.map f = some w) : ∃ v, x = some v ∧ f v = w := by
  cases x with
  | none => cases h
  | some v => exact ⟨v, rfl, Option.some.inj h⟩
def bz2 (x : Int) : Option Unit := if x = 0 ∨ x = 1 then some () else none
theorem bz2_ok {x : Int} {u : Unit} (h : bz2 x = some u) : x = 0 ∨ x = 1 := (ib_ h).1
-- loops
def iterO {σ ρ : Type} (f : σ → Option (σ ⊕ ρ)) : Nat → σ → Option ρ
  | 0, _ => none
  | n + 1, s => (f s).bind fun x => x.elim (fun s' => iterO f n s') some
theorem iterO_mono {σ ρ : Type} (f : σ → Option (σ ⊕ ρ)) : ∀ (n : Nat) (s : σ) (r : ρ), iterO f n s = some r → iterO f (n + 1) s = some r := by
  intro n
  induction n with
  | zero => intro s r h; cases h
  | succ n ih =>
    intro s r h
    obtain ⟨x, h1, h2⟩ := bs (show (f s).bind _ = some r from h)
    show (f s).bind _ = some r
    rw [h1]
    cases x with
    | inl s' => exact ih s' r h2
    | inr r' => exact h2
theorem iterO_le {σ ρ : Type} (f : σ → Option (σ ⊕ ρ)) {n m : Nat} (hm : n ≤ m) {s : σ} {r : ρ} (h : iterO f n s = some r) : iterO f m s = some r := by
  induction hm with
  | refl => exact h
  | step _ ih => exact iterO_mono f _ s r ih
noncomputable def whileO {σ ρ : Type} (f : σ → Option (σ ⊕ ρ)) (s : σ) : Option ρ :=
  @dite (Option ρ) (∃ r, ∃ n, iterO f n s = some r) (Classical.propDecidable _) (fun h => some (Classical.choose h)) (fun _ => none)
theorem whileO_iff {σ ρ : Type} (f : σ → Option (σ ⊕ ρ)) (s : σ) (r : ρ) : whileO f s = some r ↔ ∃ n, iterO f n s = some r := by
  unfold whileO
  constructor
  · intro h
    by_cases hc : ∃ r, ∃ n, iterO f n s = some r
    · rw [dif_pos hc] at h
      have h2 := Classical.choose_spec hc
      rw [Option.some.inj h] at h2
      exact h2
    · rw [dif_neg hc] at h
      cases h
  · rintro ⟨n, h⟩
    have hc : ∃ r, ∃ n, iterO f n s = some r := ⟨r, n, h⟩
    rw [dif_pos hc]
    obtain ⟨m, hm⟩ := Classical.choose_spec hc
    have h1 := iterO_le f (Nat.le_max_left n m) h
    have h2 := iterO_le f (Nat.le_max_right n m) hm
    rw [h1] at h2
    rw [Option.some.inj h2]
theorem whileO_eq {σ ρ : Type} (f : σ → Option (σ ⊕ ρ)) (s : σ) : whileO f s = (f s).bind fun x => x.elim (fun s' => whileO f s') some := by
  apply Option.ext
  intro r
  rw [whileO_iff]
  constructor
  · rintro ⟨n, h⟩
    cases n with
    | zero => cases h
    | succ n =>
      obtain ⟨x, h1, h2⟩ := bs (show (f s).bind _ = some r from h)
      rw [h1]
      cases x with
      | inl s' => exact (whileO_iff f s' r).mpr ⟨n, h2⟩
      | inr r' => exact h2
  · intro h
    obtain ⟨x, h1, h2⟩ := bs h
    cases x with
    | inl s' =>
      obtain ⟨n, hn⟩ := (whileO_iff f s' r).mp h2
      refine ⟨n + 1, ?_⟩
      show (f s).bind _ = some r
      rw [h1]
      exact hn
    | inr r' =>
      refine ⟨1, ?_⟩
      show (f s).bind _ = some r
      rw [h1]
      exact h2
/-- a loop comes to its end: an invariant, a measure that falls -/
theorem whileO_tot {σ ρ : Type} {f : σ → Option (σ ⊕ ρ)} (ms : σ → Nat) (I : σ → Prop) (P : ρ → Prop)
    (h : ∀ s, I s → (∃ s', f s = some (.inl s') ∧ I s' ∧ ms s' < ms s) ∨ ∃ r, f s = some (.inr r) ∧ P r) : ∀ s, I s → ∃ r, whileO f s = some r ∧ P r := by
  suffices H : ∀ (n : Nat) (s : σ), ms s ≤ n → I s → ∃ r, whileO f s = some r ∧ P r from fun s hs => H (ms s) s (Nat.le_refl _) hs
  intro n
  induction n with
  | zero =>
    intro s hn hs
    rcases h s hs with ⟨s', h1, h2, h3⟩ | ⟨r, h1, h2⟩
    · omega
    · exact ⟨r, by rw [whileO_eq, h1]; rfl, h2⟩
  | succ n ih =>
    intro s hn hs
    rcases h s hs with ⟨s', h1, h2, h3⟩ | ⟨r, h1, h2⟩
    · obtain ⟨r, e, p⟩ := ih s' (by omega) h2
      exact ⟨r, by rw [whileO_eq, h1]; exact e, p⟩
    · exact ⟨r, by rw [whileO_eq, h1]; rfl, h2⟩
/-- walking a loop: what holds of every state at its head -/
theorem whileO_walk {σ ρ : Type} {f : σ → Option (σ ⊕ ρ)} {w : ρ} (G : σ → Prop)
    (h : ∀ (s : σ) (x : σ ⊕ ρ), f s = some x → (∀ s', x = .inl s' → G s') → (∀ r, x = .inr r → r = w) → G s) : ∀ s, whileO f s = some w → G s := by
  intro s hs
  obtain ⟨n, hn⟩ := (whileO_iff f s w).mp hs
  induction n generalizing s with
  | zero => cases hn
  | succ n ih =>
    obtain ⟨x, h1, h2⟩ := bs (show (f s).bind _ = some w from hn)
    refine h s x h1 (fun s' e => ?_) (fun r e => ?_)
    · subst e
      exact ih s' ((whileO_iff f s' w).mpr ⟨n, h2⟩) h2
    · subst e
      exact Option.some.inj h2
/-! classes, cells -/
def zT0 : u_T := fun _ => ("", "", "", false)
abbrev zCl : List vw_C := [(RX1, TX1, 19), (RX2, TX2, 8), (RX4, zT0, 0), (RX5, TX5, 7), (RX6, TX6, 6), (RX7, TX7, 1), (RX8, TX8, 2), (RX9, TX9, 10), (RX10, TX10, 3), (RX11, TX11, 38), (RX12, TX12, 1), (RX13, TX13, 1), (RX15, TX15, 3), (RX16, TX16, 2), (RX17, TX17, 2)]
def zty : Nat → Nat → FieldType := fun c => match c with
  | 0 => tyX1
  | 1 => tyX2
  | 3 => tyX5
  | 4 => tyX6
  | 5 => tyX7
  | 6 => tyX8
  | 7 => tyX9
  | 8 => tyX10
  | 9 => tyX11
  | 10 => tyX12
  | 11 => tyX13
  | 12 => tyX15
  | 13 => tyX16
  | 14 => tyX17
  | _ => fun _ => .int
abbrev zTy (D : va_G) : List (ClassId × FieldType) := [(D.1 101, .int), (D.1 102, .byte), (D.1 103, .long), (D.1 104, .object "LetterForms$Form"), (D.1 105, .array .int), (D.1 106, .object "LetterForms$Sign"), (D.1 107, .object "LetterForms$Act")]
def zok (c : Nat) (r : vw_C) : Prop := (∀ w ∈ u_ws r.1 r.2.1 r.2.2, w ∈ lw_all) ∧ (∀ k, k < r.2.2 → parseFieldDescriptor (r.2.1 k).2.2.1 = some (zty c k)) ∧ ∀ a, a < r.2.2 → ∀ b, b < r.2.2 → a ≠ b → (r.2.1 a).2.1 ≠ (r.2.1 b).2.1
theorem zCl_ok {c : Nat} {r : vw_C} (h : zCl[c]? = some r) : zok c r := by
  match c, h with
  | 0, h => cases h; exact ⟨in_X1, tyX1_ok, nmX1⟩
  | 1, h => cases h; exact ⟨in_X2, tyX2_ok, nmX2⟩
  | 2, h => cases h; exact ⟨fun w h => (by cases h), fun k h => absurd h (Nat.not_lt_zero k), fun a h => absurd h (Nat.not_lt_zero a)⟩
  | 3, h => cases h; exact ⟨in_X5, tyX5_ok, nmX5⟩
  | 4, h => cases h; exact ⟨in_X6, tyX6_ok, nmX6⟩
  | 5, h => cases h; exact ⟨in_X7, tyX7_ok, nmX7⟩
  | 6, h => cases h; exact ⟨in_X8, tyX8_ok, nmX8⟩
  | 7, h => cases h; exact ⟨in_X9, tyX9_ok, nmX9⟩
  | 8, h => cases h; exact ⟨in_X10, tyX10_ok, nmX10⟩
  | 9, h => cases h; exact ⟨in_X11, tyX11_ok, nmX11⟩
  | 10, h => cases h; exact ⟨in_X12, tyX12_ok, nmX12⟩
  | 11, h => cases h; exact ⟨in_X13, tyX13_ok, nmX13⟩
  | 12, h => cases h; exact ⟨in_X15, tyX15_ok, nmX15⟩
  | 13, h => cases h; exact ⟨in_X16, tyX16_ok, nmX16⟩
  | 14, h => cases h; exact ⟨in_X17, tyX17_ok, nmX17⟩
  | c + 15, h => simp [zCl] at h
def fV (μ : Me) (c a k : Nat) : Value := match zty c k with
  | .long => vJ (μ.2.2 a k)
  | .object _ => va_rf (μ.1.2.2.2 a k)
  | .array _ => va_rf (μ.1.2.2.2 a k)
  | _ => vI (μ.2.1 a k)
def aV (μ : Me) (t a : Nat) : Nat → Value := fun j => if t = 103 then vJ (μ.2.2 a j) else if t ≤ 102 then vI (μ.2.1 a j) else va_rf (μ.1.2.2.2 a j)
def okA (D : va_G) (μ : Me) (H : Heap) (a : Nat) : Prop :=
  (∀ (c : Nat) (r : vw_C), zCl[c]? = some r → μ.1.2.1 a = c → t_OB a (D.1 c) r.2.2 (D.2 c) H (fV μ c a)) ∧
  ∀ t : Nat, 101 ≤ t → t ≤ 107 → μ.1.2.1 a = t → H[a]? = some (arrV (D.1 t) (μ.1.2.2.1 a).toNat (aV μ t a)) ∧ 0 ≤ μ.1.2.2.1 a ∧ μ.1.2.2.1 a < 2147483648
/-- the heap holds the memory -/
def RP (D : va_G) (b0 : Nat) (μ : Me) (H : Heap) : Prop := H.size = μ.1.1.1 ∧ (∀ a, okA D μ H a) ∧ ∀ a, μ.1.2.1 a ≠ 99 → b0 ≤ a
theorem okA.congr {D : va_G} {μ μ' : Me} {H H' : Heap} {a : Nat} (h : okA D μ H a) (h1 : μ'.1.2.1 a = μ.1.2.1 a) (h2 : μ'.1.2.2.1 a = μ.1.2.2.1 a) (h3 : μ'.1.2.2.2 a = μ.1.2.2.2 a) (h4 : μ'.2.1 a = μ.2.1 a) (h5 : μ'.2.2 a = μ.2.2 a) (hH : H'[a]? = H[a]?) : okA D μ' H' a := by
  refine ⟨fun c r hc ht => ?_, fun t l1 l2 ht => ?_⟩
  · have h9 := h.1 c r hc (by rw [← h1]; exact ht)
    have e : fV μ' c a = fV μ c a := by
      funext k
      unfold fV
      rw [h3, h4, h5]
    rw [e]
    exact h9.kept hH
  · have h9 := h.2 t l1 l2 (by rw [← h1]; exact ht)
    have e : aV μ' t a = aV μ t a := by
      funext k
      unfold aV
      rw [h3, h4, h5]
    rw [e, hH, h2]
    exact h9
/-- slots of the cells from n on -/
def nsl (n : Nat) (H : Heap) : Nat := ((H.toList.map (fun c : Cell => c.slots.size)).drop n).sum
theorem nsl_self (H : Heap) : nsl H.size H = 0 := by
  unfold nsl
  rw [List.drop_eq_nil_of_le (by simp)]
  rfl
theorem nsl_push {n : Nat} {H : Heap} (c : Cell) (h : n ≤ H.size) : nsl n (H.push c) = nsl n H + c.slots.size := by
  unfold nsl
  rw [Array.toList_push, List.map_append, List.drop_append_of_le_length (by simpa using h), List.sum_append]
  simp
theorem nsl_map {H H' : Heap} (h : ∀ q : Nat, (H'[q]?).map (fun c : Cell => c.slots.size) = (H[q]?).map (fun c : Cell => c.slots.size)) (n : Nat) : nsl n H' = nsl n H := by
  unfold nsl
  congr 2
  apply List.ext_getElem?
  intro i
  rw [List.getElem?_map, List.getElem?_map, Array.getElem?_toList, Array.getElem?_toList]
  exact h i
theorem nsl_call {n : Nat} {H H' : Heap} (hn : n ≤ H.size) (h : ∀ q : Nat, q < H.size → (H'[q]?).map (fun c : Cell => c.slots.size) = (H[q]?).map (fun c : Cell => c.slots.size)) : nsl n H' = nsl n H + nsl H.size H' := by
  unfold nsl
  have e : H'.toList.map (fun c : Cell => c.slots.size) = H.toList.map (fun c : Cell => c.slots.size) ++ (H'.toList.map (fun c : Cell => c.slots.size)).drop H.size := by
    apply List.ext_getElem?
    intro i
    by_cases hi : i < H.size
    · rw [List.getElem?_append_left (by simpa using hi), List.getElem?_map, List.getElem?_map, Array.getElem?_toList, Array.getElem?_toList]
      exact h i hi
    · rw [List.getElem?_append_right (by simpa using hi), List.getElem?_drop]
      congr 1
      simp
      omega
  have e2 : (H.toList.map (fun c : Cell => c.slots.size)).length = H.size := by simp
  conv => lhs; rw [e]
  rw [List.drop_append_of_le_length (by rw [e2]; exact hn), List.sum_append]
/-- nothing below b0 is touched; the cells of the start keep their sizes; what is left is left -/
def SS (b0 : Nat) (H0 : Heap) (R : Room) (μ : Me) (H : Heap) (locs : List Loc) : Prop :=
  va_S (fun q => b0 ≤ q) H0 H locs ∧ (∀ q : Nat, q < H0.size → (H[q]?).map (fun c : Cell => c.slots.size) = (H0[q]?).map (fun c : Cell => c.slots.size)) ∧
  H.size + μ.1.1.2.1 ≤ H0.size + R.cells ∧ nsl H0.size H + μ.1.1.2.2 ≤ R.slots
theorem stand_exact {p : Program} {l : Launch} {e : Env} {R : Room} {s : State} {m : MethodId} {args : Array Value} {below : List Frame} {meth : Method} {c : Code} {T : State} {locs : List Loc} {cells slots : Nat}
    (X : Stand p l e R s m args below meth c T locs cells slots) : Stand p l e R s m args below meth c T locs (T.heap.size - s.heap.size) (nsl s.heap.size T.heap) := by
  have h := X.same
  have e0 : (T.setVm s.vm).heap = T.heap := rfl
  refine { X with same := ⟨h.1, h.2.1, ?_, h.2.2.2.1, ?_, h.2.2.2.2.2⟩ }
  · have := h.2.1
    rw [e0] at this ⊢
    omega
  · unfold nsl
    rw [e0, List.map_drop]
    exact Nat.le_refl _
theorem W.exact {p : Program} {l : Launch} {e : Env} {R : Room} {s : State} {m : MethodId} {args : Array Value} {below : List Frame} {meth : Method} {c : Code} {H : Heap} {locs : List Loc} {cells slots : Nat} {Q : State → Prop} {g : JFrame}
    (k : W p l e R s m args below meth c H locs (H.size - s.heap.size) (nsl s.heap.size H) Q g) : W p l e R s m args below meth c H locs cells slots Q g := by
  intro T hT X
  have Y := stand_exact X
  rw [hT] at Y
  exact k T hT Y

/-! PURE LAYER: loops, memory in the form (sh, I, J) -/
set_option maxRecDepth 100000
/-- a loop of n turns -/
theorem whileO_for {σ ρ : Type} {f : σ → Option (σ ⊕ ρ)} (n : Nat) (V : Nat → σ → Prop) (P : ρ → Prop) (step : ∀ (i : Nat) (s : σ), i < n → V i s → ∃ s', f s = some (.inl s') ∧ V (i + 1) s')
    (stop : ∀ s, V n s → ∃ r, f s = some (.inr r) ∧ P r) (s : σ) (h : V 0 s) : ∃ r, whileO f s = some r ∧ P r := by
  suffices H : ∀ (k i : Nat) (s : σ), i + k = n → V i s → ∃ r, whileO f s = some r ∧ P r from H n 0 s (by omega) h
  intro k
  induction k with
  | zero =>
    intro i s hi hv
    have : i = n := by omega
    subst this
    obtain ⟨r, h1, h2⟩ := stop s hv
    exact ⟨r, by rw [whileO_eq, h1]; rfl, h2⟩
  | succ k ih =>
    intro i s hi hv
    obtain ⟨s', h1, h2⟩ := step i s (by omega) hv
    obtain ⟨r, h3, h4⟩ := ih (i + 1) s' (by omega) h2
    exact ⟨r, by rw [whileO_eq, h1]; exact h3, h4⟩
/-- a loop of at most n turns, that may end at any -/
theorem whileO_upto {σ ρ : Type} {f : σ → Option (σ ⊕ ρ)} (n : Nat) (V : Nat → σ → Prop) (P : ρ → Prop) (step : ∀ (i : Nat) (s : σ), i < n → V i s → (∃ s', f s = some (.inl s') ∧ V (i + 1) s') ∨ ∃ r, f s = some (.inr r) ∧ P r)
    (stop : ∀ s, V n s → ∃ r, f s = some (.inr r) ∧ P r) (s : σ) (h : V 0 s) : ∃ r, whileO f s = some r ∧ P r := by
  suffices H : ∀ (k i : Nat) (s : σ), i + k = n → V i s → ∃ r, whileO f s = some r ∧ P r from H n 0 s (by omega) h
  intro k
  induction k with
  | zero =>
    intro i s hi hv
    have : i = n := by omega
    subst this
    obtain ⟨r, h1, h2⟩ := stop s hv
    exact ⟨r, by rw [whileO_eq, h1]; rfl, h2⟩
  | succ k ih =>
    intro i s hi hv
    rcases step i s (by omega) hv with ⟨s', h1, h2⟩ | ⟨r, h1, h2⟩
    · obtain ⟨r, h3, h4⟩ := ih (i + 1) s' (by omega) h2
      exact ⟨r, by rw [whileO_eq, h1]; exact h3, h4⟩
    · exact ⟨r, by rw [whileO_eq, h1]; rfl, h2⟩
/-- a loop whose states are told one by one -/
theorem whileO_tr {σ ρ : Type} {f : σ → Option (σ ⊕ ρ)} (n : Nat) (M : Nat → σ) {r : ρ} {s : σ} (h0 : s = M 0) (step : ∀ i, i < n → f (M i) = some (.inl (M (i + 1)))) (stop : f (M n) = some (.inr r)) : whileO f s = some r := by
  obtain ⟨r', h1, h2⟩ := whileO_for (f := f) n (fun i s => s = M i) (fun x => x = r) (fun i s hi hv => ⟨_, by rw [hv]; exact step i hi, rfl⟩) (fun s hv => ⟨r, by rw [hv]; exact stop, rfl⟩) s h0
  rw [h1, h2]
theorem up1_up1 {α : Type} (f : Nat → α) (a : Nat) (v w : α) : up1 (up1 f a v) a w = up1 f a w := by
  funext q
  unfold up1
  split <;> rfl
theorem up1_id {α : Type} (f : Nat → α) (a : Nat) : up1 f a (f a) = f := by
  funext q
  unfold up1
  split
  · next h => rw [h]
  · rfl
theorem sI_m (sh : Sh) (I J : Nat → Int → Int) (a : Nat) (f : Int → Int) : sI (sh, I, J) a f = (sh, up1 I a f, J) := rfl
theorem sJ_m (sh : Sh) (I J : Nat → Int → Int) (a : Nat) (f : Int → Int) : sJ (sh, I, J) a f = (sh, I, up1 J a f) := rfl
theorem ck_m {sh : Sh} {I J : Nat → Int → Int} {c a : Nat} (h : sh.2.1 a = c) : ck (sh, I, J) c a = some () := if_pos h
theorem gI_m {sh : Sh} {I J : Nat → Int → Int} {c a : Nat} (h : sh.2.1 a = c) (k : Int) : gI (sh, I, J) c a k = some (I a k) := if_pos h
theorem gJ_m {sh : Sh} {I J : Nat → Int → Int} {c a : Nat} (h : sh.2.1 a = c) (k : Int) : gJ (sh, I, J) c a k = some (J a k) := if_pos h
theorem gR_m {sh : Sh} {I J : Nat → Int → Int} {c a b : Nat} {k : Int} (h : sh.2.1 a = c) (h2 : sh.2.2.2 a k = some b) : gR (sh, I, J) c a k = some b := (if_pos h).trans h2
theorem pI_m {sh : Sh} {I J : Nat → Int → Int} {c a : Nat} (h : sh.2.1 a = c) (k v : Int) : pI (sh, I, J) c a k v = some (sh, up1 I a (upz (I a) k v), J) := if_pos h
theorem pJ_m {sh : Sh} {I J : Nat → Int → Int} {c a : Nat} (h : sh.2.1 a = c) (k v : Int) : pJ (sh, I, J) c a k v = some (sh, I, up1 J a (upz (J a) k v)) := if_pos h
/-- an array of kind t and length n lies at a -/
def AR (sh : Sh) (a t : Nat) (n : Int) : Prop := sh.2.1 a = t ∧ sh.2.2.1 a = n ∧ n ≤ 2147483648
theorem AR.w {sh : Sh} {a t : Nat} {n j : Int} (h : AR sh a t n) (h0 : 0 ≤ j) (h1 : j < n) : w32 j = j := w32_id (by omega) (by have := h.2.2; omega)
theorem aI_m {sh : Sh} {I J : Nat → Int → Int} {a t : Nat} {n j : Int} (h : AR sh a t n) (h0 : 0 ≤ j) (h1 : j < n) : aI (sh, I, J) t a j = some (I a j) := by
  have hw := h.w h0 h1
  unfold aI
  rw [hw]
  exact if_pos ⟨h.1, h0, by show j < sh.2.2.1 a; rw [h.2.1]; exact h1⟩
theorem aJ_m {sh : Sh} {I J : Nat → Int → Int} {a t : Nat} {n j : Int} (h : AR sh a t n) (h0 : 0 ≤ j) (h1 : j < n) : aJ (sh, I, J) t a j = some (J a j) := by
  have hw := h.w h0 h1
  unfold aJ
  rw [hw]
  exact if_pos ⟨h.1, h0, by show j < sh.2.2.1 a; rw [h.2.1]; exact h1⟩
theorem aR_m {sh : Sh} {I J : Nat → Int → Int} {a t b : Nat} {n j : Int} (h : AR sh a t n) (h0 : 0 ≤ j) (h1 : j < n) (h2 : sh.2.2.2 a j = some b) : aR (sh, I, J) t a j = some b := by
  have hw := h.w h0 h1
  unfold aR
  rw [hw]
  exact (if_pos ⟨h.1, h0, by show j < sh.2.2.1 a; rw [h.2.1]; exact h1⟩).trans h2
theorem uI_m {sh : Sh} {I J : Nat → Int → Int} {a : Nat} {n j v : Int} (h : AR sh a 101 n) (h0 : 0 ≤ j) (h1 : j < n) : uI (sh, I, J) a j v = some (sh, up1 I a (upz (I a) j v), J) := by
  have hw := h.w h0 h1
  unfold uI
  rw [hw]
  exact if_pos ⟨h.1, h0, by show j < sh.2.2.1 a; rw [h.2.1]; exact h1⟩
theorem uB_m {sh : Sh} {I J : Nat → Int → Int} {a : Nat} {n j v : Int} (h : AR sh a 102 n) (h0 : 0 ≤ j) (h1 : j < n) : uB (sh, I, J) a j v = some (sh, up1 I a (upz (I a) j (w8 v)), J) := by
  have hw := h.w h0 h1
  unfold uB
  rw [hw]
  exact if_pos ⟨h.1, h0, by show j < sh.2.2.1 a; rw [h.2.1]; exact h1⟩
theorem uJ_m {sh : Sh} {I J : Nat → Int → Int} {a : Nat} {n j v : Int} (h : AR sh a 103 n) (h0 : 0 ≤ j) (h1 : j < n) : uJ (sh, I, J) a j v = some (sh, I, up1 J a (upz (J a) j v)) := by
  have hw := h.w h0 h1
  unfold uJ
  rw [hw]
  exact if_pos ⟨h.1, h0, by show j < sh.2.2.1 a; rw [h.2.1]; exact h1⟩
theorem bsome {α β : Type} (x : α) (f : α → Option β) : (some x).bind f = f x := id rfl
/-- what Math's and the machine's division mean -/
theorem rmI_m {a b : Int} (ha : -2147483648 ≤ a) (ha2 : a < 2147483648) (hb : 0 < b) (hb2 : b < 2147483648) : rmI a b = some (Int.tmod a b) := by
  unfold rmI
  rw [w32_id ha ha2, w32_id (by omega) hb2]
  rw [if_neg (by omega)]

/-! the rank of rows, whichever way it is found -/
set_option maxRecDepth 100000
def leadP (p : Int) (L : Nat) (w : Int → Int) (c : Nat) : Prop := c < L ∧ (∀ j : Nat, j < c → w j % p = 0) ∧ w c % p ≠ 0
/-- a space of rows -/
def SubP (p : Int) (L : Nat) (V : (Int → Int) → Prop) : Prop := V (fun _ => 0) ∧ (∀ (a : Int) (u w : Int → Int), V u → V w → V (fun j => u j - a * w j)) ∧ ∀ u w : Int → Int, V u → (∀ j : Nat, j < L → u j % p = w j % p) → V w
def Rkk (p : Int) (L m : Nat) (v : Nat → Int → Int) (r : Nat) : Prop := ∃ (B : Nat → Int → Int) (l : Nat → Nat), (∀ i, i < r → leadP p L (B i) (l i)) ∧ (∀ i k, i < k → k < r → l i ≠ l k) ∧ ∀ V, SubP p L V → ((∀ i, i < m → V (v i)) ↔ ∀ i, i < r → V (B i))
theorem sm_zero {p : Int} {f : Nat → Int} : ∀ n : Nat, (∀ k, k < n → f k % p = 0) → sm n f % p = 0
  | 0, _ => Int.zero_emod p
  | n + 1, h => by
    show (sm n f + f n) % p = 0
    rw [Int.add_emod, sm_zero n (fun k hk => h k (by omega)), h n (by omega), Int.add_zero, Int.zero_emod]
theorem sm_single {p : Int} {f : Nat → Int} {i : Nat} : ∀ n : Nat, i < n → (∀ k, k < n → k ≠ i → f k % p = 0) → sm n f % p = f i % p
  | 0, h, _ => by omega
  | n + 1, h, h2 => by
    show (sm n f + f n) % p = f i % p
    by_cases e : i = n
    · rw [Int.add_emod, sm_zero n (fun k hk => h2 k (by omega) (by omega)), Int.zero_add, emod_emod_, e]
    · rw [Int.add_emod, sm_single n (by omega) (fun k hk hne => h2 k (by omega) hne), h2 n (by omega) (by omega), Int.add_zero, emod_emod_]
theorem fld {p a b : Int} (hp : Pp p) (h : a * b % p = 0) (hb : b % p ≠ 0) : a % p = 0 := by
  have h1 := emod_b hp b
  have h2 := ivS_ok hp (a := b % p) (by omega) h1.2
  have h3 : a * b * ivS p (b % p) % p = 0 := by rw [← emod_mul_l, h, Int.zero_mul, Int.zero_emod]
  have h4 : b * ivS p (b % p) % p = 1 := by rw [← emod_mul_l]; exact h2
  have hpb := hp.b
  rw [Int.mul_assoc, ← emod_mul_r, h4, Int.mul_one] at h3
  exact h3
/-- the leads of what is made of rows with leads of their own are these leads -/
theorem lead_in {p : Int} (hp : Pp p) {L r : Nat} {B : Nat → Int → Int} {l : Nat → Nat} (hl : ∀ i, i < r → leadP p L (B i) (l i)) (hd : ∀ i k, i < k → k < r → l i ≠ l k) {w : Int → Int} {c : Nat} (hw : ∀ V, SubP p L V → (∀ i, i < r → V (B i)) → V w) (hc : leadP p L w c) : ∃ i, i < r ∧ l i = c := by
  -- coefficients
  obtain ⟨a, ha⟩ : ∃ a : Nat → Int, ∀ j : Nat, j < L → w j % p = sm r (fun i => a i * B i j) % p := by
    refine hw (fun w => ∃ a : Nat → Int, ∀ j : Nat, j < L → w j % p = sm r (fun i => a i * B i j) % p) ⟨⟨fun _ => 0, fun j _ => ?_⟩, ?_, ?_⟩ (fun i hi => ⟨fun k => if k = i then 1 else 0, fun j _ => ?_⟩)
    · rw [sm_zero r (fun k _ => by rw [Int.zero_mul, Int.zero_emod]), Int.zero_emod]
    · rintro t u w ⟨a, ha⟩ ⟨b, hb⟩
      refine ⟨fun i => a i - t * b i, fun j hj => ?_⟩
      have e : sm r (fun i => (a i - t * b i) * B i j) = sm r (fun i => a i * B i j) - t * sm r (fun i => b i * B i j) := by
        have e1 : sm r (fun i => (a i - t * b i) * B i j) = sm r (fun i => a i * B i j + (-t) * (b i * B i j)) := sm_congr (fun i _ => by grind)
        rw [e1, sm_add, sm_mul]
        grind
      rw [e]
      dsimp only
      rw [Int.sub_emod, ha j hj, ← emod_mul_r, hb j hj, emod_mul_r, ← Int.sub_emod]
    · rintro u w ⟨a, ha⟩ h
      exact ⟨a, fun j hj => by rw [← h j hj]; exact ha j hj⟩
    · rw [sm_single (i := i) r hi (fun k _ hne => by dsimp only; rw [if_neg hne, Int.zero_mul, Int.zero_emod])]
      dsimp only
      rw [if_pos rfl, Int.one_mul]
  obtain ⟨c1, c2, c3⟩ := hc
  -- all coefficients of smaller leads are nought
  have low : ∀ j : Nat, j ≤ c → ∀ i, i < r → l i < j → a i % p = 0 := by
    intro j
    induction j with
    | zero => intro _ i _ h; omega
    | succ j ih =>
      intro hj i hi h
      by_cases e : l i < j
      · exact ih (by omega) i hi e
      · have e : l i = j := by omega
        have h1 := ha j (by omega)
        rw [c2 j (by omega), sm_single (i := i) r hi (fun k hk hne => by
          have hB := hl k hk
          by_cases g : l k < j
          · rw [← emod_mul_l, ih (by omega) k hk g, Int.zero_mul, Int.zero_emod]
          · have : l k ≠ j := by
              intro g2
              rcases Nat.lt_or_gt_of_ne hne with g3 | g3
              · exact hd k i g3 hi (by omega)
              · exact hd i k g3 hk (by omega)
            rw [← emod_mul_r, hB.2.1 j (by omega), Int.mul_zero, Int.zero_emod])] at h1
        exact fld hp h1.symm (by
          have := (hl i hi).2.2
          rwa [e] at this)
  by_cases he : ∃ i, i < r ∧ l i = c
  · exact he
  · exfalso
    apply c3
    rw [ha c c1]
    refine sm_zero r (fun k hk => ?_)
    by_cases g : l k < c
    · rw [← emod_mul_l, low c (Nat.le_refl _) k hk g, Int.zero_mul, Int.zero_emod]
    · have : l k ≠ c := fun g2 => he ⟨k, hk, g2⟩
      rw [← emod_mul_r, (hl k hk).2.1 c (by omega), Int.mul_zero, Int.zero_emod]
theorem pigeon : ∀ (r s : Nat) (f : Nat → Nat), (∀ i, i < r → f i < s) → (∀ i k, i < k → k < r → f i ≠ f k) → r ≤ s
  | 0, s, f, _, _ => Nat.zero_le s
  | r + 1, s, f, h1, h2 => by
    have hs := h1 r (by omega)
    have := pigeon r (s - 1) (fun i => if f i = s - 1 then f r else f i) (fun i hi => by
      have a := h1 i (by omega)
      have b := h2 i r hi (by omega)
      split <;> omega) (fun i k hi hk => by
      have a := h2 i k hi (by omega)
      have b := h2 i r (by omega) (by omega)
      have c := h2 k r (by omega) (by omega)
      split <;> split <;> omega)
    omega
theorem rk_le {p : Int} (hp : Pp p) {L m r s : Nat} {v : Nat → Int → Int} (h : Rkk p L m v r) (g : Rkk p L m v s) : r ≤ s := by
  obtain ⟨B, l, h1, h2, h3⟩ := h
  obtain ⟨C, k, g1, g2, g3⟩ := g
  have key : ∀ i, i < r → ∃ j, j < s ∧ k j = l i := fun i hi => lead_in hp g1 g2 (w := B i) (fun V hV hC => (h3 V hV).mp ((g3 V hV).mpr hC) i hi) (h1 i hi)
  have ch : ∃ f : Nat → Nat, ∀ i, i < r → f i < s ∧ k (f i) = l i := ⟨fun i => if h : i < r then (key i h).choose else 0, fun i hi => by
    simp only [dif_pos hi]
    exact (key i hi).choose_spec⟩
  obtain ⟨f, hf⟩ := ch
  refine pigeon r s f (fun i hi => (hf i hi).1) (fun i j hij hj e => h2 i j hij hj ?_)
  rw [← (hf i (by omega)).2, ← (hf j hj).2, e]
theorem rk_uniq {p : Int} (hp : Pp p) {L m r s : Nat} {v : Nat → Int → Int} (h : Rkk p L m v r) (g : Rkk p L m v s) : r = s := Nat.le_antisymm (rk_le hp h g) (rk_le hp g h)
/-- one row more -/
theorem SubP.add {p : Int} {L : Nat} {V : (Int → Int) → Prop} (h : SubP p L V) {a : Int} {u w : Int → Int} (h1 : V (fun j => u j - a * w j)) (h2 : V w) : V u := by
  have := h.2.1 (-a) _ _ h1 h2
  exact h.2.2 _ _ this (fun j _ => by
    rw [show u j - a * w j - -a * w j = u j by grind])
/-- the twin's way: rows with leads, each nought at the leads ahead of it -/
def twB (p : Int) (L m : Nat) (v : Nat → Int → Int) (r : Nat) (B : Nat → Int → Int) : Prop :=
  (∀ i, i < r → ldZ p (B i) L 0 < L) ∧ (∀ i k, i < k → k < r → B k (ldZ p (B i) L 0) % p = 0) ∧ ∀ V, SubP p L V → ((∀ i, i < m → V (v i)) ↔ ∀ i, i < r → V (B i))
theorem ld_lead {p : Int} {L : Nat} {w : Int → Int} (h : ldZ p w L 0 < L) : leadP p L w (ldZ p w L 0) := by
  obtain ⟨h1, h2⟩ := ldZ_spec p w L 0
  exact ⟨h, fun j hj => h1 j (Nat.zero_le _) hj, h2 (by omega)⟩
theorem twB.rk {p : Int} {L m r : Nat} {v B : Nat → Int → Int} (h : twB p L m v r B) : Rkk p L m v r := by
  obtain ⟨h1, h2, h3⟩ := h
  refine ⟨B, fun i => ldZ p (B i) L 0, fun i hi => ld_lead (h1 i hi), fun i k hik hk e => ?_, h3⟩
  have := (ld_lead (h1 k hk)).2.2
  have e : ldZ p (B i) L 0 = ldZ p (B k) L 0 := e
  rw [← e] at this
  exact this (h2 i k hik hk)
theorem rdN_nought {p : Int} (hp : Pp p) {L r : Nat} {B : Nat → Int → Int} (h1 : ∀ i, i < r → ldZ p (B i) L 0 < L) (h2 : ∀ i k, i < k → k < r → B k (ldZ p (B i) L 0) % p = 0) (v : Int → Int) : ∀ k, k ≤ r → ∀ i, i < k → rdN p L B k v (ldZ p (B i) L 0) % p = 0
  | 0, _, i, hi => by omega
  | k + 1, hk, i, hi => by
    show (rdN p L B k v (ldZ p (B i) L 0) - rdN p L B k v (ldZ p (B k) L 0) * ivS p (B k (ldZ p (B k) L 0) % p) * B k (ldZ p (B i) L 0)) % p = 0
    by_cases e : i = k
    · subst e
      have hb := emod_b hp (B i (ldZ p (B i) L 0))
      have hl := (ld_lead (h1 i (by omega))).2.2
      have ho := ivS_ok hp (a := B i (ldZ p (B i) L 0) % p) (by omega) hb.2
      rw [emod_mul_l] at ho
      obtain ⟨a, ha⟩ : ∃ a, rdN p L B i v (ldZ p (B i) L 0) = a := ⟨_, rfl⟩
      obtain ⟨b, hb2⟩ : ∃ b, B i (ldZ p (B i) L 0) = b := ⟨_, rfl⟩
      rw [ha, hb2]
      rw [hb2] at ho
      rw [Int.mul_assoc, Int.mul_comm (ivS p (b % p)) b, Int.sub_emod, ← emod_mul_r, ho, Int.mul_one, Int.sub_self, Int.zero_emod]
    · have ih := rdN_nought hp h1 h2 v k (by omega) i (by omega)
      rw [Int.sub_emod, ih, ← emod_mul_r, h2 i k (by omega) (by omega), Int.mul_zero, Int.zero_emod]
      rfl
theorem rdN_sub {p : Int} {L r : Nat} {B : Nat → Int → Int} {V : (Int → Int) → Prop} (hV : SubP p L V) (hB : ∀ i, i < r → V (B i)) (v : Int → Int) : V v ↔ V (rdN p L B r v) := by
  induction r with
  | zero => exact Iff.rfl
  | succ r ih =>
    rw [ih (fun i hi => hB i (by omega))]
    exact ⟨fun h => hV.2.1 _ _ _ h (hB r (by omega)), fun h => hV.add h (hB r (by omega))⟩
/-- a row more: new, or not -/
theorem twB.new {p : Int} (hp : Pp p) {L m r : Nat} {v B : Nat → Int → Int} (h : twB p L m v r B) (hn : ldZ p (rdN p L B r (v m)) L 0 < L) : twB p L (m + 1) v (r + 1) (fun i => if i = r then rdN p L B r (v m) else B i) := by
  obtain ⟨h1, h2, h3⟩ := h
  refine ⟨fun i hi => ?_, fun i k hik hk => ?_, fun V hV => ?_⟩
  · dsimp only
    by_cases e : i = r
    · rw [if_pos e]; exact hn
    · rw [if_neg e]; exact h1 i (by omega)
  · dsimp only
    rw [if_neg (show i ≠ r by omega)]
    by_cases e : k = r
    · rw [if_pos e]
      exact rdN_nought hp h1 h2 (v m) r (Nat.le_refl _) i (by omega)
    · rw [if_neg e]
      exact h2 i k hik (by omega)
  · constructor
    · intro g i hi
      have g1 := (h3 V hV).mp (fun i hi => g i (by omega))
      dsimp only
      by_cases e : i = r
      · rw [if_pos e]
        exact (rdN_sub hV g1 (v m)).mp (g m (by omega))
      · rw [if_neg e]
        exact g1 i (by omega)
    · intro g i hi
      have g1 : ∀ i, i < r → V (B i) := fun i hi => by
        have := g i (by omega)
        dsimp only at this
        rwa [if_neg (show i ≠ r by omega)] at this
      by_cases e : i = m
      · rw [e]
        refine (rdN_sub hV g1 (v m)).mpr ?_
        have := g r (by omega)
        dsimp only at this
        rwa [if_pos rfl] at this
      · exact (h3 V hV).mpr g1 i (by omega)
theorem twB.old {p : Int} {L m r : Nat} {v B : Nat → Int → Int} (h : twB p L m v r B) (hn : ¬ ldZ p (rdN p L B r (v m)) L 0 < L) : twB p L (m + 1) v r B := by
  obtain ⟨h1, h2, h3⟩ := h
  refine ⟨h1, h2, fun V hV => ⟨fun g => (h3 V hV).mp (fun i hi => g i (by omega)), fun g i hi => ?_⟩⟩
  by_cases e : i = m
  · rw [e]
    refine (rdN_sub hV g (v m)).mpr (hV.2.2 _ _ hV.1 (fun j hj => ?_))
    obtain ⟨z1, -⟩ := ldZ_spec p (rdN p L B r (v m)) L 0
    rw [z1 j (Nat.zero_le _) (by omega), Int.zero_emod]
  · exact (h3 V hV).mpr g i (by omega)
theorem Rkk.congr {p : Int} {L m r : Nat} {v w : Nat → Int → Int} (h : Rkk p L m v r) (e : ∀ i, i < m → ∀ j : Nat, j < L → v i j % p = w i j % p) : Rkk p L m w r := by
  obtain ⟨B, l, h1, h2, h3⟩ := h
  refine ⟨B, l, h1, h2, fun V hV => Iff.trans ⟨fun g i hi => hV.2.2 _ _ (g i hi) (fun j hj => (e i hi j hj).symm), fun g i hi => hV.2.2 _ _ (g i hi) (fun j hj => e i hi j hj)⟩ (h3 V hV)⟩
/-- the component's way: the first n rows have leads that grow, all of them ahead of c; behind them all rows are nought ahead of c -/
def cpB (p : Int) (L m : Nat) (v M : Nat → Int → Int) (n c : Nat) : Prop :=
  (n ≤ m ∧ c ≤ L) ∧ (∃ l : Nat → Nat, (∀ i, i < n → leadP p L (M i) (l i) ∧ l i < c) ∧ ∀ i k, i < k → k < n → l i < l k) ∧ (∀ k, n ≤ k → k < m → ∀ j : Nat, j < c → M k j % p = 0) ∧ ∀ V, SubP p L V → ((∀ i, i < m → V (v i)) ↔ ∀ i, i < m → V (M i))
theorem cpB.end {p : Int} {L m n c : Nat} {v M : Nat → Int → Int} (h : cpB p L m v M n c) (hc : c = L ∨ n = m) : Rkk p L m v n := by
  obtain ⟨⟨h0, h0'⟩, ⟨l, h1, h2⟩, h3, h4⟩ := h
  refine ⟨M, l, fun i hi => (h1 i hi).1, fun i k a b => Nat.ne_of_lt (h2 i k a b), fun V hV => (h4 V hV).trans ⟨fun g i hi => g i (by omega), fun g i hi => ?_⟩⟩
  by_cases e : i < n
  · exact g i e
  · rcases hc with hc | hc
    · exact hV.2.2 _ _ hV.1 (fun j hj => by rw [h3 i (by omega) hi j (by omega), Int.zero_emod])
    · omega
/-- a column without a lead -/
theorem cpB.skip {p : Int} {L m n c : Nat} {v M : Nat → Int → Int} (h : cpB p L m v M n c) (hc : c < L) (hz : ∀ k, n ≤ k → k < m → M k c % p = 0) : cpB p L m v M n (c + 1) := by
  obtain ⟨⟨h0, h0'⟩, ⟨l, h1, h2⟩, h3, h4⟩ := h
  refine ⟨⟨h0, by omega⟩, ⟨l, fun i hi => ⟨(h1 i hi).1, by have := (h1 i hi).2; omega⟩, h2⟩, fun k hk hm j hj => ?_, h4⟩
  by_cases e : j = c
  · rw [e]; exact hz k hk hm
  · exact h3 k hk hm j (by omega)
/-- rows change places -/
def swp (M : Nat → Int → Int) (n r : Nat) : Nat → Int → Int := fun k => if k = n then M r else if k = r then M n else M k
/-- a column with a lead: rows change places, and behind it times the row is taken off -/
theorem cpB.step {p : Int} (hp : Pp p) {L m n c r : Nat} {v M M' : Nat → Int → Int} (h : cpB p L m v M n c) (hc : c < L) (hr : n ≤ r ∧ r < m) (hl : M r c % p ≠ 0)
    (hM : ∀ k, k < m → ∀ j : Nat, j < L → M' k j % p = (if k ≤ n then swp M n r k j else swp M n r k j - (swp M n r k c * ivS p (M r c % p)) * M r j) % p) : cpB p L m v M' (n + 1) (c + 1) := by
  obtain ⟨⟨h0, h0'⟩, ⟨l, h1, h2⟩, h3, h4⟩ := h
  have hpb := hp.b
  have same : ∀ k, k < n → ∀ j : Nat, j < L → M' k j % p = M k j % p := fun k hk j hj => by
    rw [hM k (by omega) j hj, if_pos (by omega)]
    unfold swp
    rw [if_neg (by omega), if_neg (by omega)]
  have atn : ∀ j : Nat, j < L → M' n j % p = M r j % p := fun j hj => by
    rw [hM n (by omega) j hj, if_pos (Nat.le_refl _)]
    unfold swp
    rw [if_pos rfl]
  have hb := emod_b hp (M r c)
  have ho := ivS_ok hp (a := M r c % p) (by omega) hb.2
  rw [emod_mul_l] at ho
  have sz : ∀ k, n ≤ k → k < m → ∀ j : Nat, j < c → swp M n r k j % p = 0 := fun k hk hm j hj => by
    unfold swp
    split
    · exact h3 r hr.1 hr.2 j hj
    · split
      · exact h3 n (Nat.le_refl _) (by omega) j hj
      · exact h3 k hk hm j hj
  refine ⟨⟨by omega, by omega⟩, ⟨fun i => if i = n then c else l i, fun i hi => ?_, fun i k hik hk => ?_⟩, fun k hk hm j hj => ?_, fun V hV => (h4 V hV).trans ?_⟩
  · dsimp only
    by_cases e : i = n
    · rw [if_pos e, e]
      refine ⟨⟨hc, fun j hj => ?_, ?_⟩, by omega⟩
      · rw [atn j (by omega)]
        exact h3 r hr.1 hr.2 j hj
      · rw [atn c hc]
        exact hl
    · rw [if_neg e]
      obtain ⟨⟨a1, a2, a3⟩, a4⟩ := h1 i (by omega)
      refine ⟨⟨a1, fun j hj => ?_, ?_⟩, by omega⟩
      · rw [same i (by omega) j (by omega)]
        exact a2 j hj
      · rw [same i (by omega) _ a1]
        exact a3
  · dsimp only
    rw [if_neg (show i ≠ n by omega)]
    by_cases e : k = n
    · rw [if_pos e]
      exact (h1 i (by omega)).2
    · rw [if_neg e]
      exact h2 i k hik (by omega)
  · rw [hM k hm j (by omega), if_neg (by omega)]
    by_cases e : j = c
    · rw [e]
      obtain ⟨a, ha⟩ : ∃ a, swp M n r k c = a := ⟨_, rfl⟩
      rw [ha, Int.mul_assoc, Int.mul_comm (ivS p (M r c % p)) (M r c), Int.sub_emod, ← emod_mul_r, ho, Int.mul_one, Int.sub_self, Int.zero_emod]
    · rw [Int.sub_emod, sz k (by omega) hm j (by omega), ← emod_mul_r, h3 r hr.1 hr.2 j (by omega), Int.mul_zero, Int.zero_emod]
      rfl
  · -- the spaces are one
    have perm : (∀ i, i < m → V (M i)) ↔ ∀ i, i < m → V (swp M n r i) := by
      constructor
      · intro g i hi
        unfold swp
        split
        · exact g r hr.2
        · split
          · exact g n (by omega)
          · exact g i hi
      · intro g i hi
        by_cases e : i = n
        · have := g r hr.2
          unfold swp at this
          by_cases e2 : r = n
          · rw [if_pos e2] at this
            rw [e, ← e2]; exact this
          · rw [if_neg e2, if_pos rfl] at this
            rw [e]; exact this
        · by_cases e2 : i = r
          · have := g n (by omega)
            unfold swp at this
            rw [if_pos rfl] at this
            rw [e2]; exact this
          · have := g i hi
            unfold swp at this
            rw [if_neg e, if_neg e2] at this
            exact this
    rw [perm]
    have en : swp M n r n = M r := if_pos rfl
    constructor
    · intro g i hi
      by_cases e : i ≤ n
      · exact hV.2.2 _ _ (g i hi) (fun j hj => by rw [hM i hi j hj, if_pos e])
      · exact hV.2.2 _ _ (hV.2.1 (swp M n r i c * ivS p (M r c % p)) _ _ (g i hi) (by have := g n (by omega); rw [en] at this; exact this)) (fun j hj => by rw [hM i hi j hj, if_neg e])
    · intro g
      have gr : V (M r) := hV.2.2 _ _ (g n (by omega)) (fun j hj => atn j hj)
      intro i hi
      by_cases e : i ≤ n
      · exact hV.2.2 _ _ (g i hi) (fun j hj => by rw [hM i hi j hj, if_pos e])
      · exact hV.add (a := swp M n r i c * ivS p (M r c % p)) (hV.2.2 _ _ (g i hi) (fun j hj => by rw [hM i hi j hj, if_neg e])) gr

/-! reading signs, without memory -/
set_option maxRecDepth 100000
def Tr.up : (n : Nat) → Tr n → Tr (n + 1)
  | 0, t => Empty.elim t
  | _ + 1, .inl u => .inl u
  | _ + 1, .inr (.inl v) => .inr (.inl v)
  | n + 1, .inr (.inr (.inl t)) => .inr (.inr (.inl (Tr.up n t)))
  | n + 1, .inr (.inr (.inr (o, t1, t2))) => .inr (.inr (.inr (o, Tr.up n t1, Tr.up n t2)))
def Tr.to : (m : Nat) → (n : Nat) → Tr n → n ≤ m → Tr m
  | 0, n, t, h => (Nat.le_zero.mp h) ▸ t
  | m + 1, n, t, h => if e : n = m + 1 then e ▸ t else Tr.up m (Tr.to m n t (by omega))
theorem Tr.to_f {α : Type} (f : (n : Nat) → Tr n → α) (hf : ∀ n t, f (n + 1) (Tr.up n t) = f n t) : ∀ (m n : Nat) (t : Tr n) (h : n ≤ m), f m (Tr.to m n t h) = f n t
  | 0, n, t, h => by
    have e : n = 0 := Nat.le_zero.mp h
    subst e
    rfl
  | m + 1, n, t, h => by
    unfold Tr.to
    by_cases e : n = m + 1
    · subst e
      rw [dif_pos rfl]
    · rw [dif_neg e, hf]
      exact Tr.to_f f hf m n t (by omega)
/-- how many times minus -/
def Tr.mi : (n : Nat) → Tr n → Nat
  | 0, t => Empty.elim t
  | _ + 1, .inl _ => 0
  | _ + 1, .inr (.inl _) => 0
  | n + 1, .inr (.inr (.inl t)) => Tr.mi n t + 1
  | n + 1, .inr (.inr (.inr (_, t1, t2))) => Tr.mi n t1 + Tr.mi n t2
theorem Tr.post_up : ∀ (n : Nat) (t : Tr n), Tr.post (n + 1) (Tr.up n t) = Tr.post n t
  | 0, t => Empty.elim t
  | _ + 1, .inl _ => rfl
  | _ + 1, .inr (.inl _) => rfl
  | n + 1, .inr (.inr (.inl t)) => by
    show Tr.post (n + 1) (Tr.up n t) ++ [(5, 0)] = Tr.post n t ++ [(5, 0)]
    rw [Tr.post_up n t]
  | n + 1, .inr (.inr (.inr (o, t1, t2))) => by
    show Tr.post (n + 1) (Tr.up n t1) ++ (Tr.post (n + 1) (Tr.up n t2) ++ [o]) = Tr.post n t1 ++ (Tr.post n t2 ++ [o])
    rw [Tr.post_up n t1, Tr.post_up n t2]
theorem Tr.lv_up : ∀ (n : Nat) (t : Tr n), Tr.lv (n + 1) (Tr.up n t) = Tr.lv n t
  | 0, t => Empty.elim t
  | _ + 1, .inl _ => rfl
  | _ + 1, .inr (.inl _) => rfl
  | n + 1, .inr (.inr (.inl t)) => Tr.lv_up n t
  | n + 1, .inr (.inr (.inr (o, t1, t2))) => by
    show Tr.lv (n + 1) (Tr.up n t1) + Tr.lv (n + 1) (Tr.up n t2) = Tr.lv n t1 + Tr.lv n t2
    rw [Tr.lv_up n t1, Tr.lv_up n t2]
theorem Tr.mi_up : ∀ (n : Nat) (t : Tr n), Tr.mi (n + 1) (Tr.up n t) = Tr.mi n t
  | 0, t => Empty.elim t
  | _ + 1, .inl _ => rfl
  | _ + 1, .inr (.inl _) => rfl
  | n + 1, .inr (.inr (.inl t)) => by
    show Tr.mi (n + 1) (Tr.up n t) + 1 = Tr.mi n t + 1
    rw [Tr.mi_up n t]
  | n + 1, .inr (.inr (.inr (o, t1, t2))) => by
    show Tr.mi (n + 1) (Tr.up n t1) + Tr.mi (n + 1) (Tr.up n t2) = Tr.mi n t1 + Tr.mi n t2
    rw [Tr.mi_up n t1, Tr.mi_up n t2]
theorem Tr.wf_up : ∀ (n : Nat) (t : Tr n), Tr.wf (n + 1) (Tr.up n t) = Tr.wf n t
  | 0, t => Empty.elim t
  | _ + 1, .inl _ => rfl
  | _ + 1, .inr (.inl _) => rfl
  | n + 1, .inr (.inr (.inl t)) => Tr.wf_up n t
  | n + 1, .inr (.inr (.inr (o, t1, t2))) => by
    show (okO o ∧ Tr.wf (n + 1) (Tr.up n t1) ∧ Tr.wf (n + 1) (Tr.up n t2)) = (okO o ∧ Tr.wf n t1 ∧ Tr.wf n t2)
    rw [Tr.wf_up n t1, Tr.wf_up n t2]
abbrev TT : Type := (n : Nat) × Tr n
def tIt : TT := ⟨1, .inl ()⟩
def tCs (v : Int) : TT := ⟨1, .inr (.inl v)⟩
def tMi (t : TT) : TT := ⟨t.1 + 1, .inr (.inr (.inl t.2))⟩
def tPr (o : Int × Int) (a b : TT) : TT := ⟨max a.1 b.1 + 1, .inr (.inr (.inr (o, Tr.to _ _ a.2 (Nat.le_max_left _ _), Tr.to _ _ b.2 (Nat.le_max_right _ _))))⟩
abbrev pst (t : TT) : List (Int × Int) := Tr.post t.1 t.2
abbrev lvs (t : TT) : Nat := Tr.lv t.1 t.2
abbrev mis (t : TT) : Nat := Tr.mi t.1 t.2
abbrev wfs (t : TT) : Prop := Tr.wf t.1 t.2
theorem pst_pr (o : Int × Int) (a b : TT) : pst (tPr o a b) = pst a ++ (pst b ++ [o]) := by
  show Tr.post _ (Tr.to _ _ a.2 _) ++ (Tr.post _ (Tr.to _ _ b.2 _) ++ [o]) = _
  rw [Tr.to_f Tr.post Tr.post_up, Tr.to_f Tr.post Tr.post_up]
theorem lvs_pr (o : Int × Int) (a b : TT) : lvs (tPr o a b) = lvs a + lvs b := by
  show Tr.lv _ (Tr.to _ _ a.2 _) + Tr.lv _ (Tr.to _ _ b.2 _) = _
  rw [Tr.to_f Tr.lv Tr.lv_up, Tr.to_f Tr.lv Tr.lv_up]
theorem mis_pr (o : Int × Int) (a b : TT) : mis (tPr o a b) = mis a + mis b := by
  show Tr.mi _ (Tr.to _ _ a.2 _) + Tr.mi _ (Tr.to _ _ b.2 _) = _
  rw [Tr.to_f Tr.mi Tr.mi_up, Tr.to_f Tr.mi Tr.mi_up]
theorem wfs_pr {o : Int × Int} {a b : TT} (ho : okO o) (ha : wfs a) (hb : wfs b) : wfs (tPr o a b) := by
  show okO o ∧ Tr.wf _ (Tr.to _ _ a.2 _) ∧ Tr.wf _ (Tr.to _ _ b.2 _)
  rw [Tr.to_f Tr.wf Tr.wf_up, Tr.to_f Tr.wf Tr.wf_up]
  exact ⟨ho, ha, hb⟩
theorem pst_len : ∀ (n : Nat) (t : Tr n), (Tr.post n t).length + 1 = 2 * Tr.lv n t + Tr.mi n t
  | 0, t => Empty.elim t
  | _ + 1, .inl _ => rfl
  | _ + 1, .inr (.inl _) => rfl
  | n + 1, .inr (.inr (.inl t)) => by
    have := pst_len n t
    show (Tr.post n t ++ [((5 : Int), (0 : Int))]).length + 1 = 2 * Tr.lv n t + (Tr.mi n t + 1)
    simp
    omega
  | n + 1, .inr (.inr (.inr (o, t1, t2))) => by
    have h1 := pst_len n t1
    have h2 := pst_len n t2
    show (Tr.post n t1 ++ (Tr.post n t2 ++ [o])).length + 1 = 2 * (Tr.lv n t1 + Tr.lv n t2) + (Tr.mi n t1 + Tr.mi n t2)
    simp
    omega
-- signs, numbers
def skp (B : Int → Int) (n : Int) : Nat → Int → Int
  | 0, a => a
  | k + 1, a => if a < n ∧ B a = 32 then skp B n k (a + 1) else a
def skS (B : Int → Int) (n a : Int) : Int := skp B n 401 a
abbrev isD (B : Int → Int) (n a : Int) : Prop := a < n ∧ 48 ≤ B a ∧ B a ≤ 57
def dge (B : Int → Int) (n : Int) : Nat → Int → Int
  | 0, a => a
  | k + 1, a => if isD B n a then dge B n k (a + 1) else a
def dgv (B : Int → Int) (n f : Int) : Nat → Int → Int → Int
  | 0, _, v => v
  | k + 1, a, v => if isD B n a then dgv B n f k (a + 1) (if a - f < 3 then 10 * v + B a - 48 else v) else v
/-- a number: its place if it's none -/
def nmS (B : Int → Int) (n most a : Int) : Int ⊕ (Int × Int) :=
  if dge B n 401 (skS B n a) = skS B n a ∨ 3 < dge B n 401 (skS B n a) - skS B n a ∨ most < dgv B n (skS B n a) 401 (skS B n a) 0 then .inl (skS B n a)
  else .inr (dgv B n (skS B n a) 401 (skS B n a) 0, dge B n 401 (skS B n a))
abbrev PR : Type := Int ⊕ (TT × Int × Int)
/-- so long as a sign stands there that joins; hard: one too many is a fault -/
def lpR (hard : Bool) (B : Int → Int) (n c op : Int) (F : Int → Int → PR) : Nat → TT → Int → Int → PR
  | 0, t, a, it => .inr (t, a, it)
  | k + 1, t, a, it =>
    if skS B n a < n ∧ B (skS B n a) = c then
      (if it = 40 then (if hard = true then .inl (skS B n a) else .inr (t, skS B n a, it))
       else (F (skS B n a + 1) (it + 1)).elim .inl (fun r => lpR hard B n c op F k (tPr (op, 0) t r.1) r.2.1 r.2.2))
    else .inr (t, skS B n a, it)
def unR (B : Int → Int) (n : Int) (F : Nat → Int → Int → Int → PR) (a deep it : Int) : PR :=
  if skS B n a < n ∧ B (skS B n a) = 45 then
    (if deep = 6 then .inl (skS B n a) else (F 2 (skS B n a + 1) (deep + 1) it).elim .inl (fun r => .inr (tMi r.1, r.2.1, r.2.2)))
  else if skS B n a < n ∧ B (skS B n a) = 40 then
    (if deep = 6 then .inl (skS B n a) else (F 0 (skS B n a + 1) (deep + 1) it).elim .inl (fun r => if skS B n r.2.1 < n ∧ B (skS B n r.2.1) = 41 then .inr (r.1, skS B n r.2.1 + 1, r.2.2) else .inl (skS B n r.2.1)))
  else if skS B n a < n ∧ B (skS B n a) = 91 then F 3 (skS B n a + 1) deep it
  else if isD B n (skS B n a) then
    (if it = 40 then .inl (skS B n a) else (nmS B n 999 (skS B n a)).elim .inl (fun r => .inr (tCs r.1, r.2, it + 1)))
  else if (skS B n a < n ∧ B (skS B n a) = 102) ∧ ¬(skS B n a + 1 < n ∧ 97 ≤ B (skS B n a + 1) ∧ B (skS B n a + 1) ≤ 122) ∧ it ≠ 40 then .inr (tIt, skS B n a + 1, it + 1)
  else .inl (skS B n a)
def ovR (B : Int → Int) (n : Int) (F : Nat → Int → Int → Int → PR) (a deep it : Int) : PR :=
  if it = 40 ∨ deep = 6 then .inl (a - 1)
  else (F 0 a (deep + 1) (it + 1)).elim .inl (fun r => if skS B n r.2.1 < n ∧ B (skS B n r.2.1) = 44 then
    (F 0 (skS B n r.2.1 + 1) (deep + 1) r.2.2).elim .inl (fun q => if skS B n q.2.1 < n ∧ B (skS B n q.2.1) = 93 then
      (nmS B n 8 (skS B n q.2.1 + 1)).elim .inl (fun v => .inr (tPr (4, v.1) r.1 q.1, v.2, q.2.2)) else .inl (skS B n q.2.1)) else .inl (skS B n r.2.1))
def prR (hard : Bool) (B : Int → Int) (n : Int) : Nat → Nat → Int → Int → Int → PR
  | 0, _, a, _, _ => .inl a
  | f + 1, tag, a, deep, it =>
    if tag = 0 then (prR hard B n f 1 a deep it).elim .inl (fun r => lpR hard B n 43 2 (fun a i => prR hard B n f 1 a deep i) 401 r.1 r.2.1 r.2.2)
    else if tag = 1 then (prR hard B n f 2 a deep it).elim .inl (fun r => lpR hard B n 42 3 (fun a i => prR hard B n f 2 a deep i) 401 r.1 r.2.1 r.2.2)
    else if tag = 2 then unR B n (prR hard B n f) a deep it
    else ovR B n (prR hard B n f) a deep it
/-- a text: its tree, or the place of its fault -/
def txR (hard : Bool) (B : Int → Int) (n : Int) : Int ⊕ TT :=
  (prR hard B n 40 0 0 0 0).elim .inl (fun r => if skS B n r.2.1 = n then .inr r.1 else .inl (skS B n r.2.1))
theorem skp_b (B : Int → Int) (n : Int) : ∀ (k : Nat) (a : Int), a ≤ skp B n k a ∧ (a ≤ n → skp B n k a ≤ n)
  | 0, a => ⟨Int.le_refl a, fun h => h⟩
  | k + 1, a => by
    unfold skp
    split
    · next h =>
      have := skp_b B n k (a + 1)
      exact ⟨by omega, fun _ => this.2 (by omega)⟩
    · exact ⟨Int.le_refl a, fun h => h⟩
theorem skp_e (B : Int → Int) (n : Int) : ∀ (k : Nat) (a : Int), n - a < k → ¬(skp B n k a < n ∧ B (skp B n k a) = 32)
  | 0, a, h => by
    unfold skp
    omega
  | k + 1, a, h => by
    unfold skp
    split
    · exact skp_e B n k (a + 1) (by omega)
    · assumption
theorem skS_b {B : Int → Int} {n a : Int} (h0 : 0 ≤ a) (h1 : a ≤ n) (h2 : n ≤ 400) : a ≤ skS B n a ∧ skS B n a ≤ n ∧ ¬(skS B n a < n ∧ B (skS B n a) = 32) :=
  ⟨(skp_b B n 401 a).1, (skp_b B n 401 a).2 h1, skp_e B n 401 a (by omega)⟩
theorem skp_id {B : Int → Int} {n a : Int} (h : ¬(a < n ∧ B a = 32)) : ∀ k : Nat, skp B n k a = a
  | 0 => rfl
  | k + 1 => if_neg h
theorem skS_id {B : Int → Int} {n a : Int} (h : ¬(a < n ∧ B a = 32)) : skS B n a = a := skp_id h 401
theorem dge_b (B : Int → Int) (n : Int) : ∀ (k : Nat) (a : Int), a ≤ dge B n k a ∧ (a ≤ n → dge B n k a ≤ n)
  | 0, a => ⟨Int.le_refl a, fun h => h⟩
  | k + 1, a => by
    unfold dge
    split
    · next h =>
      have := dge_b B n k (a + 1)
      exact ⟨by omega, fun _ => this.2 (by have := h.1; omega)⟩
    · exact ⟨Int.le_refl a, fun h => h⟩
theorem dgv_b (B : Int → Int) (n f : Int) : ∀ (k : Nat) (a v : Int), f ≤ a → 0 ≤ v → v < 10 ^ (min (a - f) 3).toNat → 0 ≤ dgv B n f k a v ∧ dgv B n f k a v < 1000
  | 0, a, v, h, h0, h1 => by
    unfold dgv
    have h2 : (min (a - f) 3).toNat = 0 ∨ (min (a - f) 3).toNat = 1 ∨ (min (a - f) 3).toNat = 2 ∨ (min (a - f) 3).toNat = 3 := by omega
    rcases h2 with e | e | e | e <;> rw [e] at h1 <;> exact ⟨h0, by omega⟩
  | k + 1, a, v, h, h0, h1 => by
    unfold dgv
    have h2 : (min (a - f) 3).toNat = 0 ∨ (min (a - f) 3).toNat = 1 ∨ (min (a - f) 3).toNat = 2 ∨ (min (a - f) 3).toNat = 3 := by omega
    split
    · next hd =>
      obtain ⟨d0, d1, d2⟩ := hd
      refine dgv_b B n f k (a + 1) _ (by omega) (by split <;> omega) ?_
      rcases h2 with e | e | e | e
      · rw [e] at h1
        rw [if_pos (by omega), show (min (a + 1 - f) 3).toNat = 1 by omega]
        omega
      · rw [e] at h1
        rw [if_pos (by omega), show (min (a + 1 - f) 3).toNat = 2 by omega]
        omega
      · rw [e] at h1
        rw [if_pos (by omega), show (min (a + 1 - f) 3).toNat = 3 by omega]
        omega
      · rw [e] at h1
        rw [if_neg (by omega), show (min (a + 1 - f) 3).toNat = 3 by omega]
        exact h1
    · rcases h2 with e | e | e | e <;> rw [e] at h1 <;> exact ⟨h0, by omega⟩
theorem nmS_ok {B : Int → Int} {n most a v e : Int} (h0 : 0 ≤ a) (h1 : a ≤ n) (h2 : n ≤ 400) (h : nmS B n most a = .inr (v, e)) : 0 ≤ v ∧ v ≤ most ∧ a < e ∧ e ≤ n := by
  have s := skS_b (B := B) h0 h1 h2
  have d := dge_b B n 401 (skS B n a)
  have dv := dgv_b B n (skS B n a) 401 (skS B n a) 0 (Int.le_refl _) (Int.le_refl _) (by
    rw [show (min (skS B n a - skS B n a) 3).toNat = 0 by omega]
    decide)
  unfold nmS at h
  split at h
  · cases h
  · next hn =>
    have := Sum.inr.inj h
    have e1 := congrArg Prod.fst this
    have e2 := congrArg Prod.snd this
    dsimp only at e1 e2
    have := d.2 s.2.1
    omega
/-- what a tree that was read keeps to -/
def okT (n deep a it : Int) (r : TT × Int × Int) : Prop := wfs r.1 ∧ (a ≤ r.2.1 ∧ r.2.1 ≤ n) ∧ r.2.2 + 1 = it + 2 * lvs r.1 ∧ r.2.2 ≤ 40 ∧ (mis r.1 : Int) ≤ (6 - deep) * lvs r.1
theorem lvs_pos (t : TT) : 1 ≤ lvs t := Tr.lv_pos t.1 t.2
theorem lpR_ok {hard : Bool} {B : Int → Int} {n c op deep : Int} {F : Int → Int → PR} (hn : n ≤ 400) (hop : op = 2 ∨ op = 3) (hF : ∀ a it, 0 ≤ a → a ≤ n → 0 ≤ it → it ≤ 40 → ∀ r, F a it = .inr r → okT n deep a it r) :
    ∀ (k : Nat) (t : TT) (a it a0 it0 : Int), 0 ≤ a0 → 0 ≤ it0 → okT n deep a0 it0 (t, a, it) → ∀ r, lpR hard B n c op F k t a it = .inr r → okT n deep a0 it0 r
  | 0, t, a, it, a0, it0, ha0, hi0, h, r, hr => by
    rw [← Sum.inr.inj (show (Sum.inr (t, a, it) : PR) = .inr r from hr)]
    exact h
  | k + 1, t, a, it, a0, it0, ha0, hi0, h, r, hr => by
    have hh := h
    obtain ⟨h1, ⟨h2, h3⟩, h4, h5, h6⟩ := h
    dsimp only at h1 h2 h3 h4 h5 h6
    have lt := lvs_pos t
    have s := skS_b (B := B) (n := n) (a := a) (by omega) h3 hn
    have stop : okT n deep a0 it0 (t, skS B n a, it) := ⟨h1, ⟨by show a0 ≤ skS B n a; omega, s.2.1⟩, h4, h5, h6⟩
    unfold lpR at hr
    split at hr
    · next hc =>
      split at hr
      · split at hr
        · cases hr
        · rw [← Sum.inr.inj hr]
          exact stop
      · next hit =>
        cases hF2 : F (skS B n a + 1) (it + 1) with
        | inl pl =>
          rw [hF2] at hr
          cases hr
        | inr q =>
          rw [hF2] at hr
          obtain ⟨q1, ⟨q2, q3⟩, q4, q5, q6⟩ := hF (skS B n a + 1) (it + 1) (by omega) (by omega) (by omega) (by omega) q hF2
          have lq := lvs_pos q.1
          refine lpR_ok hn hop hF k _ _ _ a0 it0 ha0 hi0 ⟨wfs_pr ⟨?_, by show (0 : Int) ≤ 0; omega, by show (0 : Int) ≤ 8; omega⟩ h1 q1, ⟨?_, q3⟩, ?_, q5, ?_⟩ r hr
          · show op = 2 ∨ op = 3 ∨ op = 4
            omega
          · show a0 ≤ q.2.1
            omega
          · show q.2.2 + 1 = it0 + 2 * ((lvs (tPr (op, 0) t q.1) : Nat) : Int)
            rw [lvs_pr]
            omega
          · show ((mis (tPr (op, 0) t q.1) : Nat) : Int) ≤ (6 - deep) * ((lvs (tPr (op, 0) t q.1) : Nat) : Int)
            rw [lvs_pr, mis_pr, Int.natCast_add, Int.natCast_add, Int.mul_add]
            omega
    · rw [← Sum.inr.inj hr]
      exact stop
theorem prR_ok {hard : Bool} {B : Int → Int} {n : Int} (hn : n ≤ 400) : ∀ (f tag : Nat) (a deep it : Int), 0 ≤ a → a ≤ n → (0 ≤ deep ∧ deep ≤ 6) → (0 ≤ it ∧ it ≤ 40) → ∀ r, prR hard B n f tag a deep it = .inr r → okT n deep a it r
  | 0, tag, a, deep, it, _, _, _, _, r, hr => by cases hr
  | f + 1, tag, a, deep, it, h0, h1, hd, hi, r, hr => by
    have IH := prR_ok (hard := hard) (B := B) hn f
    unfold prR at hr
    have s := skS_b (B := B) h0 h1 hn
    split at hr
    · cases hq : prR hard B n f 1 a deep it with
      | inl pl => rw [hq] at hr; cases hr
      | inr q =>
        rw [hq] at hr
        exact lpR_ok hn (Or.inl rfl) (fun a' it' z1 z2 z3 z4 r' hr' => IH 1 a' deep it' z1 z2 hd ⟨z3, z4⟩ r' hr') 401 q.1 q.2.1 q.2.2 a it h0 hi.1 (IH 1 a deep it h0 h1 hd hi q hq) r hr
    split at hr
    · cases hq : prR hard B n f 2 a deep it with
      | inl pl => rw [hq] at hr; cases hr
      | inr q =>
        rw [hq] at hr
        exact lpR_ok hn (Or.inr rfl) (fun a' it' z1 z2 z3 z4 r' hr' => IH 2 a' deep it' z1 z2 hd ⟨z3, z4⟩ r' hr') 401 q.1 q.2.1 q.2.2 a it h0 hi.1 (IH 2 a deep it h0 h1 hd hi q hq) r hr
    split at hr
    · unfold unR at hr
      split at hr
      · next hc =>
        split at hr
        · cases hr
        · next h6 =>
          cases hq : prR hard B n f 2 (skS B n a + 1) (deep + 1) it with
          | inl pl => rw [hq] at hr; cases hr
          | inr q =>
            rw [hq] at hr
            obtain ⟨q1, ⟨q2, q3⟩, q4, q5, q6⟩ := IH 2 (skS B n a + 1) (deep + 1) it (by omega) (by omega) (by omega) hi q hq
            have lq := lvs_pos q.1
            rw [← Sum.inr.inj (show (Sum.inr (tMi q.1, q.2.1, q.2.2) : PR) = .inr r from hr)]
            refine ⟨q1, ⟨by show a ≤ q.2.1; omega, q3⟩, q4, q5, ?_⟩
            show ((mis q.1 + 1 : Nat) : Int) ≤ (6 - deep) * (lvs q.1 : Int)
            have e : (6 - deep) * (lvs q.1 : Int) = (6 - (deep + 1)) * (lvs q.1 : Int) + lvs q.1 := by
              rw [show 6 - deep = (6 - (deep + 1)) + 1 by omega, Int.add_mul, Int.one_mul]
            omega
      split at hr
      · next hc =>
        split at hr
        · cases hr
        · next h6 =>
          cases hq : prR hard B n f 0 (skS B n a + 1) (deep + 1) it with
          | inl pl => rw [hq] at hr; cases hr
          | inr q =>
            rw [hq] at hr
            obtain ⟨q1, ⟨q2, q3⟩, q4, q5, q6⟩ := IH 0 (skS B n a + 1) (deep + 1) it (by omega) (by omega) (by omega) hi q hq
            have lq := lvs_pos q.1
            have s2 := skS_b (B := B) (n := n) (a := q.2.1) (by omega) q3 hn
            have hr2 : (if skS B n q.2.1 < n ∧ B (skS B n q.2.1) = 41 then (.inr (q.1, skS B n q.2.1 + 1, q.2.2) : PR) else .inl (skS B n q.2.1)) = .inr r := hr
            split at hr2
            · next hc2 =>
              rw [← Sum.inr.inj hr2]
              refine ⟨q1, ⟨by show a ≤ skS B n q.2.1 + 1; omega, by show skS B n q.2.1 + 1 ≤ n; omega⟩, q4, q5, ?_⟩
              show (mis q.1 : Int) ≤ (6 - deep) * (lvs q.1 : Int)
              have e : (6 - deep) * (lvs q.1 : Int) = (6 - (deep + 1)) * (lvs q.1 : Int) + lvs q.1 := by
                rw [show 6 - deep = (6 - (deep + 1)) + 1 by omega, Int.add_mul, Int.one_mul]
              omega
            · cases hr2
      split at hr
      · next hc =>
        obtain ⟨q1, ⟨q2, q3⟩, q4⟩ := IH 3 (skS B n a + 1) deep it (by omega) (by omega) hd hi r hr
        exact ⟨q1, ⟨by omega, q3⟩, q4⟩
      split at hr
      · split at hr
        · cases hr
        · next hit =>
          cases hq : nmS B n 999 (skS B n a) with
          | inl pl => rw [hq] at hr; cases hr
          | inr q =>
            rw [hq] at hr
            obtain ⟨v, e⟩ := q
            obtain ⟨q1, q2, q3, q4⟩ := nmS_ok (by omega) s.2.1 hn hq
            rw [← Sum.inr.inj (show (Sum.inr (tCs v, e, it + 1) : PR) = .inr r from hr)]
            refine ⟨⟨q1, q2⟩, ⟨by show a ≤ e; omega, q4⟩, by show it + 1 + 1 = it + 2 * ((1 : Nat) : Int); omega, by show it + 1 ≤ 40; omega, ?_⟩
            show ((0 : Nat) : Int) ≤ (6 - deep) * ((1 : Nat) : Int)
            omega
      split at hr
      · next hc =>
        rw [← Sum.inr.inj hr]
        refine ⟨trivial, ⟨by show a ≤ skS B n a + 1; omega, by show skS B n a + 1 ≤ n; omega⟩, by show it + 1 + 1 = it + 2 * ((1 : Nat) : Int); omega, by show it + 1 ≤ 40; omega, ?_⟩
        show ((0 : Nat) : Int) ≤ (6 - deep) * ((1 : Nat) : Int)
        omega
      · cases hr
    · unfold ovR at hr
      split at hr
      · cases hr
      · next h6 =>
        cases hq : prR hard B n f 0 a (deep + 1) (it + 1) with
        | inl pl => rw [hq] at hr; cases hr
        | inr q =>
          rw [hq] at hr
          obtain ⟨q1, ⟨q2, q3⟩, q4, q5, q6⟩ := IH 0 a (deep + 1) (it + 1) h0 h1 (by omega) (by omega) q hq
          have lq := lvs_pos q.1
          have s2 := skS_b (B := B) (n := n) (a := q.2.1) (by omega) q3 hn
          have hr2 : (if skS B n q.2.1 < n ∧ B (skS B n q.2.1) = 44 then (prR hard B n f 0 (skS B n q.2.1 + 1) (deep + 1) q.2.2).elim .inl (fun w => if skS B n w.2.1 < n ∧ B (skS B n w.2.1) = 93 then (nmS B n 8 (skS B n w.2.1 + 1)).elim .inl (fun v => .inr (tPr (4, v.1) q.1 w.1, v.2, w.2.2)) else .inl (skS B n w.2.1)) else (.inl (skS B n q.2.1) : PR)) = .inr r := hr
          split at hr2
          · next hc2 =>
            cases hw : prR hard B n f 0 (skS B n q.2.1 + 1) (deep + 1) q.2.2 with
            | inl pl => rw [hw] at hr2; cases hr2
            | inr w =>
              rw [hw] at hr2
              obtain ⟨w1, ⟨w2, w3⟩, w4, w5, w6⟩ := IH 0 (skS B n q.2.1 + 1) (deep + 1) q.2.2 (by omega) (by omega) (by omega) (by omega) w hw
              have lw := lvs_pos w.1
              have s3 := skS_b (B := B) (n := n) (a := w.2.1) (by omega) w3 hn
              have hr3 : (if skS B n w.2.1 < n ∧ B (skS B n w.2.1) = 93 then (nmS B n 8 (skS B n w.2.1 + 1)).elim .inl (fun v => .inr (tPr (4, v.1) q.1 w.1, v.2, w.2.2)) else (.inl (skS B n w.2.1) : PR)) = .inr r := hr2
              split at hr3
              · next hc3 =>
                cases hv : nmS B n 8 (skS B n w.2.1 + 1) with
                | inl pl => rw [hv] at hr3; cases hr3
                | inr v =>
                  rw [hv] at hr3
                  obtain ⟨v, e⟩ := v
                  obtain ⟨v1, v2, v3, v4⟩ := nmS_ok (by omega) (by omega) hn hv
                  rw [← Sum.inr.inj (show (Sum.inr (tPr (4, v) q.1 w.1, e, w.2.2) : PR) = .inr r from hr3)]
                  refine ⟨wfs_pr ⟨Or.inr (Or.inr rfl), v1, v2⟩ q1 w1, ⟨by show a ≤ e; omega, v4⟩, ?_, w5, ?_⟩
                  · show w.2.2 + 1 = it + 2 * ((lvs (tPr (4, v) q.1 w.1) : Nat) : Int)
                    rw [lvs_pr]
                    omega
                  · show ((mis (tPr (4, v) q.1 w.1) : Nat) : Int) ≤ (6 - deep) * ((lvs (tPr (4, v) q.1 w.1) : Nat) : Int)
                    have e : ∀ x : Int, (6 - deep) * x = (6 - (deep + 1)) * x + x := by
                      intro x
                      rw [show 6 - deep = (6 - (deep + 1)) + 1 by omega, Int.add_mul, Int.one_mul]
                    have e1 := e (lvs q.1)
                    have e2 := e (lvs w.1)
                    rw [lvs_pr, mis_pr, Int.natCast_add, Int.natCast_add, Int.mul_add]
                    omega
              · cases hr3
          · cases hr2

/-! reading signs: hard and soft end alike -/
set_option maxRecDepth 100000
/-- what a hard fault is, softly -/
def softly (B : Int → Int) (n pl : Int) (P : Int → Prop) (S : PR) : Prop := S = .inl pl ∨ ∃ t, S = .inr (t, pl, 40) ∧ pl < n ∧ P (B pl)
theorem lpR_soft {B : Int → Int} {n c op : Int} {FH FS : Int → Int → PR} {Q : Prop} (hQ : Q → c = 43)
    (h1 : ∀ a it r, FH a it = .inr r → FS a it = .inr r) (h2 : ∀ a it pl, FH a it = .inl pl → softly B n pl (fun b => Q ∧ b = 42) (FS a it)) :
    ∀ (k : Nat) (t : TT) (a it : Int), (∀ r, lpR true B n c op FH k t a it = .inr r → lpR false B n c op FS k t a it = .inr r) ∧
      (∀ pl, lpR true B n c op FH k t a it = .inl pl → softly B n pl (fun b => b = c ∨ Q ∧ b = 42) (lpR false B n c op FS k t a it))
  | 0, t, a, it => ⟨fun r h => h, fun pl h => (by cases h)⟩
  | k + 1, t, a, it => by
    unfold lpR
    by_cases hc : skS B n a < n ∧ B (skS B n a) = c
    · rw [if_pos hc, if_pos hc]
      by_cases h40 : it = 40
      · rw [if_pos h40, if_pos h40, if_pos rfl, if_neg (show ¬ false = true by decide)]
        refine ⟨fun r h => (by cases h), fun pl h => Or.inr ⟨t, ?_, ?_⟩⟩
        · rw [← Sum.inl.inj h, h40]
        · rw [← Sum.inl.inj h]
          exact ⟨hc.1, Or.inl hc.2⟩
      · rw [if_neg h40, if_neg h40]
        cases hF : FH (skS B n a + 1) (it + 1) with
        | inr q =>
          rw [h1 _ _ q hF]
          exact lpR_soft hQ h1 h2 k (tPr (op, 0) t q.1) q.2.1 q.2.2
        | inl pl =>
          refine ⟨fun r h => (by cases h), fun pl' h => ?_⟩
          rw [← Sum.inl.inj (show (Sum.inl pl : PR) = .inl pl' from h)]
          rcases h2 _ _ pl hF with e | ⟨t', e, e1, e2, e3⟩
          · rw [e]
            exact Or.inl rfl
          · rw [e]
            have hs : skS B n pl = pl := skS_id (fun g => by omega)
            have hc3 := hQ e2
            refine Or.inr ⟨tPr (op, 0) t t', ?_, e1, Or.inr ⟨e2, e3⟩⟩
            show lpR false B n c op FS k (tPr (op, 0) t t') pl 40 = _
            cases k with
            | zero => rfl
            | succ k =>
              unfold lpR
              rw [hs, if_neg (show ¬(pl < n ∧ B pl = c) by omega)]
    · rw [if_neg hc, if_neg hc]
      exact ⟨fun r h => h, fun pl h => (by cases h)⟩
theorem lp0_soft {B : Int → Int} {n c op : Int} {FH FS : Int → Int → PR} {Q : Prop} (hQ : Q → c = 43)
    (h1 : ∀ a it r, FH a it = .inr r → FS a it = .inr r) (h2 : ∀ a it pl, FH a it = .inl pl → softly B n pl (fun b => Q ∧ b = 42) (FS a it)) (k : Nat) {P : Int → Prop} (hP : ∀ b, b = c ∨ Q ∧ b = 42 → P b) {H S : PR}
    (g1 : ∀ r, H = .inr r → S = .inr r) (g2 : ∀ pl, H = .inl pl → softly B n pl (fun b => Q ∧ b = 42) S) :
    (∀ r, H.elim .inl (fun r => lpR true B n c op FH k r.1 r.2.1 r.2.2) = .inr r → S.elim .inl (fun r => lpR false B n c op FS k r.1 r.2.1 r.2.2) = .inr r) ∧
    (∀ pl, H.elim .inl (fun r => lpR true B n c op FH k r.1 r.2.1 r.2.2) = .inl pl → softly B n pl P (S.elim .inl (fun r => lpR false B n c op FS k r.1 r.2.1 r.2.2))) := by
  cases H with
  | inr q =>
    rw [g1 q rfl]
    have lp := lpR_soft (op := op) hQ h1 h2 k q.1 q.2.1 q.2.2
    refine ⟨lp.1, fun pl h => ?_⟩
    rcases lp.2 pl h with e | ⟨t, e, e1, e2⟩
    · exact Or.inl e
    · exact Or.inr ⟨t, e, e1, hP _ e2⟩
  | inl pl =>
    refine ⟨fun r h => (by cases h), fun pl' h => ?_⟩
    rw [← Sum.inl.inj (show (Sum.inl pl : PR) = .inl pl' from h)]
    rcases g2 pl rfl with e | ⟨t, e, e1, e2, e3⟩
    · rw [e]
      exact Or.inl rfl
    · rw [e]
      have hs : skS B n pl = pl := skS_id (fun g => by omega)
      have hc3 := hQ e2
      refine Or.inr ⟨t, ?_, e1, hP _ (Or.inr ⟨e2, e3⟩)⟩
      show lpR false B n c op FS k t pl 40 = _
      cases k with
      | zero => rfl
      | succ k =>
        unfold lpR
        rw [hs, if_neg (show ¬(pl < n ∧ B pl = c) by omega)]
/-- a fault where another sign is waited for -/
theorem soft_wait {B : Int → Int} {n pl c : Int} {P : Int → Prop} {S : PR} (h : softly B n pl P S) (hP : ∀ b, P b → b ≠ c ∧ b ≠ 32) (G : TT × Int × Int → PR) :
    S.elim .inl (fun r => if skS B n r.2.1 < n ∧ B (skS B n r.2.1) = c then G r else .inl (skS B n r.2.1)) = .inl pl := by
  rcases h with e | ⟨t, e, e1, e2⟩
  · rw [e]
    rfl
  · rw [e]
    have hp := hP _ e2
    have hs : skS B n pl = pl := skS_id (fun g => hp.2 g.2)
    show (if skS B n pl < n ∧ B (skS B n pl) = c then G (t, pl, 40) else .inl (skS B n pl)) = _
    rw [hs, if_neg (fun g => hp.1 g.2)]
def softP (tag : Nat) (b : Int) : Prop := (tag = 1 ∧ b = 42) ∨ tag = 0 ∧ (b = 43 ∨ b = 42)
theorem prR_soft {B : Int → Int} {n : Int} : ∀ (f tag : Nat) (a deep it : Int),
    (∀ r, prR true B n f tag a deep it = .inr r → prR false B n f tag a deep it = .inr r) ∧ (∀ pl, prR true B n f tag a deep it = .inl pl → softly B n pl (softP tag) (prR false B n f tag a deep it))
  | 0, tag, a, deep, it => ⟨fun r h => (by cases h), fun pl h => Or.inl h⟩
  | f + 1, tag, a, deep, it => by
    have IH := prR_soft (B := B) (n := n) f
    have wt : ∀ (c : Int) (a deep it pl : Int) (G : TT × Int × Int → PR), c = 41 ∨ c = 44 ∨ c = 93 → prR true B n f 0 a deep it = .inl pl → (prR false B n f 0 a deep it).elim .inl (fun r => if skS B n r.2.1 < n ∧ B (skS B n r.2.1) = c then G r else .inl (skS B n r.2.1)) = .inl pl := by
      intro c a deep it pl G hc h
      exact soft_wait ((IH 0 a deep it).2 pl h) (fun b hb => by unfold softP at hb; omega) G
    have one : ∀ a deep it pl, prR true B n f 1 a deep it = .inl pl → softly B n pl (fun b => True ∧ b = 42) (prR false B n f 1 a deep it) := by
      intro a deep it pl h
      rcases (IH 1 a deep it).2 pl h with e | ⟨t, e, e1, e2⟩
      · exact Or.inl e
      · exact Or.inr ⟨t, e, e1, trivial, by unfold softP at e2; omega⟩
    have two : ∀ a deep it pl, prR true B n f 2 a deep it = .inl pl → prR false B n f 2 a deep it = .inl pl := by
      intro a deep it pl h
      rcases (IH 2 a deep it).2 pl h with e | ⟨t, e, e1, e2⟩
      · exact e
      · unfold softP at e2
        omega
    unfold prR
    by_cases t0 : tag = 0
    · rw [if_pos t0, if_pos t0]
      exact lp0_soft (Q := True) (fun _ => rfl) (fun a it r h => (IH 1 a deep it).1 r h) (fun a it pl h => one _ _ _ _ h) 401 (fun b hb => Or.inr ⟨t0, hb.elim Or.inl (fun g => Or.inr g.2)⟩) (IH 1 a deep it).1 (fun pl h => one _ _ _ _ h)
    rw [if_neg t0, if_neg t0]
    by_cases t1 : tag = 1
    · rw [if_pos t1, if_pos t1]
      exact lp0_soft (Q := False) (fun h => h.elim) (fun a it r h => (IH 2 a deep it).1 r h) (fun a it pl h => Or.inl (two _ _ _ _ h)) 401 (fun b hb => Or.inl ⟨t1, hb.elim id (fun g => g.1.elim)⟩) (IH 2 a deep it).1 (fun pl h => Or.inl (two _ _ _ _ h))
    rw [if_neg t1, if_neg t1]
    have three : ∀ a deep it pl, prR true B n f 3 a deep it = .inl pl → prR false B n f 3 a deep it = .inl pl := by
      intro a deep it pl h
      rcases (IH 3 a deep it).2 pl h with e | ⟨t, e, e1, e2⟩
      · exact e
      · unfold softP at e2
        omega
    have key : ∀ {H S : PR}, S = H → (∀ r, H = .inr r → S = .inr r) ∧ (∀ pl, H = .inl pl → softly B n pl (softP tag) S) := fun h => ⟨fun r g => h.trans g, fun pl g => Or.inl (h.trans g)⟩
    by_cases t2 : tag = 2
    · rw [if_pos t2, if_pos t2]
      apply key
      unfold unR
      by_cases c45 : skS B n a < n ∧ B (skS B n a) = 45
      · rw [if_pos c45, if_pos c45]
        by_cases h6 : deep = 6
        · rw [if_pos h6, if_pos h6]
        rw [if_neg h6, if_neg h6]
        cases hq : prR true B n f 2 (skS B n a + 1) (deep + 1) it with
        | inr q => rw [(IH _ _ _ _).1 q hq]
        | inl pl => rw [two _ _ _ _ hq]
      rw [if_neg c45, if_neg c45]
      by_cases c40 : skS B n a < n ∧ B (skS B n a) = 40
      · rw [if_pos c40, if_pos c40]
        by_cases h6 : deep = 6
        · rw [if_pos h6, if_pos h6]
        rw [if_neg h6, if_neg h6]
        cases hq : prR true B n f 0 (skS B n a + 1) (deep + 1) it with
        | inr q => rw [(IH _ _ _ _).1 q hq]
        | inl pl => exact wt 41 _ _ _ pl _ (Or.inl rfl) hq
      rw [if_neg c40, if_neg c40]
      by_cases c91 : skS B n a < n ∧ B (skS B n a) = 91
      · rw [if_pos c91, if_pos c91]
        cases hq : prR true B n f 3 (skS B n a + 1) deep it with
        | inr q => exact (IH _ _ _ _).1 q hq
        | inl pl => exact three _ _ _ _ hq
      rw [if_neg c91, if_neg c91]
    rw [if_neg t2, if_neg t2]
    apply key
    unfold ovR
    by_cases h46 : it = 40 ∨ deep = 6
    · rw [if_pos h46, if_pos h46]
    rw [if_neg h46, if_neg h46]
    cases hq : prR true B n f 0 a (deep + 1) (it + 1) with
    | inl pl => exact wt 44 _ _ _ pl _ (Or.inr (Or.inl rfl)) hq
    | inr q =>
      rw [(IH _ _ _ _).1 q hq]
      show (if skS B n q.2.1 < n ∧ B (skS B n q.2.1) = 44 then _ else _) = (if skS B n q.2.1 < n ∧ B (skS B n q.2.1) = 44 then _ else _)
      by_cases c44 : skS B n q.2.1 < n ∧ B (skS B n q.2.1) = 44
      · rw [if_pos c44, if_pos c44]
        cases hw : prR true B n f 0 (skS B n q.2.1 + 1) (deep + 1) q.2.2 with
        | inr w => rw [(IH _ _ _ _).1 w hw]
        | inl pl => exact wt 93 _ _ _ pl _ (Or.inr (Or.inr rfl)) hw
      · rw [if_neg c44, if_neg c44]
theorem txR_soft {B : Int → Int} {n : Int} : txR false B n = txR true B n := by
  unfold txR
  cases hq : prR true B n 40 0 0 0 0 with
  | inr q => rw [(prR_soft 40 0 0 0 0).1 q hq]
  | inl pl =>
    rcases (prR_soft 40 0 0 0 0).2 pl hq with e | ⟨t, e, e1, e2⟩
    · rw [e]
    · rw [e]
      have hs : skS B n pl = pl := skS_id (fun g => by unfold softP at e2; omega)
      show (if skS B n pl = n then _ else Sum.inl (skS B n pl)) = Sum.inl pl
      rw [hs, if_neg (by omega)]

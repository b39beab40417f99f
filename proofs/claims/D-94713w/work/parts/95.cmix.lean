/-! the component: a mixing is written down, undone, done again -/
set_option maxRecDepth 100000
def shA2 (sh : Sh) (S : Nat) (g : Int → Option Nat) : Sh := (sh.1, sh.2.1, sh.2.2.1, up1 sh.2.2.2 (S + 12) g)
section CMx
variable {sh sh' : Sh} {I I' J : Nat → Int → Int} {x S : Nat} {p : Int} {W W' : Int → Int}
theorem a_gR (T : ST sh S) {g : Int → Option Nat} : gR (shA2 sh S g, I, J) 7 S 3 = some (S + 12) := gR_m T.1 ((congrFun (up1_n _ _ (by omega)) _).trans T.2.2.2.2.1.1)
theorem a_aR (T : ST sh S) {g : Int → Option Nat} {k a : Nat} (hk : k < 40) (hg : g k = some a) : aR (shA2 sh S g, I, J) 107 (S + 12) k = some a := aR_m (sh := shA2 sh S g) (t := 107) (n := 40) T.2.2.2.2.1.2 (by omega) (by omega) ((congrFun (up1_s _ _ _) _).trans hg)
theorem a_uR (T : ST sh S) {g : Int → Option Nat} {k v : Nat} (hk : k < 40) (hv : sh.2.1 v = 8) : uR (shA2 sh S g, I, J) 107 8 (S + 12) k v = some (shA2 sh S (upz g k (some v)), I, J) := by
  have hA := T.2.2.2.2.1.2
  unfold uR
  rw [w32_id (x := (k : Int)) (by omega) (by omega)]
  have e : sR (shA2 sh S g, I, J) (S + 12) (upz ((shA2 sh S g).2.2.2 (S + 12)) k (some v)) = (shA2 sh S (upz g k (some v)), I, J) := by
    show ((sh.1, sh.2.1, sh.2.2.1, up1 (up1 sh.2.2.2 (S + 12) g) (S + 12) (upz (up1 sh.2.2.2 (S + 12) g (S + 12)) k (some v))), I, J) = _
    rw [up1_up1, up1_s]
    rfl
  exact (if_pos ⟨hv, hA.1, by omega, by show (k : Int) < sh.2.2.1 (S + 12); rw [hA.2.1]; omega⟩).trans (congrArg some e)
theorem ST.acts (T : ST sh S) {g : Int → Option Nat} (h : ∃ π, AP2 (shA2 sh S g) S π) : ST (shA2 sh S g) S := T.ext (x := S) (fun a _ _ => ⟨rfl, rfl⟩) (fun a _ _ _ h => up1_n _ _ h) (Nat.le_refl _) (by omega) h
/-- an act is filled -/
theorem x9_b78 (T : ST sh S) {c i : Nat} {f : Int} {q2 q3 : Nat} {d : Int} {c1 c2 : Int → Int} (hc : c < 40) (hi : i < 40) (h8 : I S 8 = c) (hr : sh.2.2.2 (S + 12) c = some (S + 45 + 5 * i)) (Q2 : FA sh q2) (Q3 : FA sh q3) (n2 : q2 < S + 45 ∨ S + 244 < q2) (n3 : q3 < S + 45 ∨ S + 244 < q3) (m2 : q2 ≠ S ∧ q2 + 1 ≠ S) (m3 : q3 ≠ S ∧ q3 + 1 ≠ S) (hd : d ≤ 40) (hf2 : FM I q2 p d c1) (hf3 : FM I q3 p d c2) :
    ∃ I', s_X9_writes_b78 S f q2 q3 (sh, I, J) = some (sh, I', J) ∧ I' (S + 45 + 5 * i) = upz (I (S + 45 + 5 * i)) 2 f ∧ FM I' (S + 45 + 5 * i + 1) p d c1 ∧ FM I' (S + 45 + 5 * i + 3) p d c2 ∧ I' S = upz (upz (I S) 8 ((c : Int) + 1)) 9 ((c : Int) + 1) ∧ ∀ b, b ≠ S → (b < S + 45 + 5 * i ∨ S + 45 + 5 * i + 4 < b) → I' b = I b := by
  obtain ⟨a, ha⟩ : ∃ a, S + 45 + 5 * i = a := ⟨_, rfl⟩
  obtain ⟨t0, ⟨t1, F1⟩, t2, F2⟩ := T.ca hi
  rw [ha] at t0 t1 F1 t2 F2 hr ⊢
  have ab : S + 45 ≤ a ∧ a ≤ S + 240 := by omega
  have p2 := Q2.ap F1 (by omega)
  have p3 := Q3.ap F1 (by omega)
  have p23 := Q3.ap F2 (by omega)
  unfold AP at p2 p3 p23
  have x2 : q2 + 1 ≠ a := fun e => by have h := Q2.2.2.1; rw [e, t0] at h; omega
  have x3 : q3 + 1 ≠ a := fun e => by have h := Q3.2.2.1; rw [e, t0] at h; omega
  have ge : ∀ (I : Nat → Int → Int) (k : Int), gI (sh, I, J) 8 a k = some (I a k) := fun I k => gI_m t0 k
  obtain ⟨I1, hI1⟩ : ∃ I1, up1 I a (upz (I a) 2 f) = I1 := ⟨_, rfl⟩
  have o1 : ∀ b, b ≠ a → I1 b = I b := fun b h => by rw [← hI1, up1_n _ _ h]
  have g2 : FM I1 q2 p d c1 := hf2.eq (o1 _ (by omega)) (o1 _ (by omega))
  obtain ⟨I2, e2, r2, f2⟩ := x8_be (I := I1) (J := J) F1 Q2 (by omega) hd g2
  have g3 : FM I2 q3 p d c2 := (hf3.eq (o1 _ (by omega)) (o1 _ (by omega))).keep f2 (by omega) (by omega)
  obtain ⟨I3, e3, r3, f3⟩ := x8_be (I := I2) (J := J) F2 Q3 (by omega) hd g3
  have s1 : I1 S = I S := o1 _ (by omega)
  have s2 : I2 S = I S := by rw [f2 _ (by omega), s1]
  have s3 : I3 S = I S := by rw [f3 _ (by omega), s2]
  obtain ⟨I4, hI4⟩ : ∃ I4, up1 I3 S (upz (upz (I S) 8 ((c : Int) + 1)) 9 ((c : Int) + 1)) = I4 := ⟨_, rfl⟩
  refine ⟨I4, ?_, ?_, ?_, ?_, by rw [← hI4, up1_s], fun b u v => by rw [← hI4, up1_n _ _ u, f3 _ (by omega), f2 _ (by omega), o1 _ (by omega)]⟩
  · unfold s_X9_writes_b78
    rw [s_ac T, bsome, s_gI T, bsome, h8, s_act T hc hr, bsome, pI_m t0, bsome, hI1, s_ac T, bsome, s_gI T, bsome, s1, h8, s_act T hc hr, bsome, gR_m t0 t1, bsome, f_ck F1, bsome, e2, bsome, s_ac T, bsome, s_gI T, bsome, s2, h8, s_act T hc hr, bsome, gR_m t0 t2, bsome, f_ck F2, bsome, e3, bsome, s_gI T, bsome, s3, h8, s_pI T, bsome, s3, s_gI T, bsome, up1_s, upz_s, s_pI T, bsome, up1_s, up1_up1, hI4]
  · rw [← hI4, up1_n _ _ (by omega), f3 _ (by omega), f2 _ (by omega), ← hI1, up1_s]
  · exact (r2.keep f3 (by omega) (by omega)).eq (by rw [← hI4, up1_n _ _ (by omega)]) (by rw [← hI4, up1_n _ _ (by omega)])
  · exact r3.eq (by rw [← hI4, up1_n _ _ (by omega)]) (by rw [← hI4, up1_n _ _ (by omega)])
/-- acts go one place ahead -/
theorem x9_shift (T : ST sh S) {π : Nat → Nat} (hπ : AP2 sh S π) {f : Int} {q2 q3 a : Nat} : ∀ (m k : Nat) (g : Int → Option Nat), k + m = 39 → (∀ j : Nat, j < 40 → g j = some (S + 45 + 5 * (if j < k then π (j + 1) else π j))) →
    ∃ g', s_X9_writes_l28 S f q2 q3 a k (shA2 sh S g, I, J) = s_X9_writes_b59 S f q2 q3 a (shA2 sh S g', I, J) ∧ ∀ j : Nat, j < 40 → g' j = some (S + 45 + 5 * (if j < 39 then π (j + 1) else π j))
  | 0, k, g, hk, hg => by
    have : k = 39 := by omega
    subst this
    refine ⟨g, ?_, hg⟩
    rw [e_X9_writes_l28]
    unfold s_X9_writes_l28_st
    rw [if_pos (by decide)]
    cases s_X9_writes_b59 S f q2 q3 a (shA2 sh S g, I, J) <;> rfl
  | m + 1, k, g, hk, hg => by
    have h1 := hg (k + 1) (by omega)
    rw [if_neg (by omega)] at h1
    have t8 := (T.ca (hπ.1 (k + 1) (by omega)).1).1
    have e1 := a_aR (I := I) (J := J) T (k := k + 1) (by omega) h1
    rw [show ((k + 1 : Nat) : Int) = (k : Int) + 1 by omega] at e1
    obtain ⟨g', e2, h2⟩ := x9_shift T hπ (f := f) (q2 := q2) (q3 := q3) (a := a) m (k + 1) (upz g k (some (S + 45 + 5 * π (k + 1)))) (by omega) (fun j hj => by
      by_cases e : j = k
      · rw [e, upz_s, if_pos (by omega)]
      · rw [upz_n _ _ (by omega), hg j hj]
        by_cases c : j < k
        · rw [if_pos c, if_pos (by omega)]
        · rw [if_neg c, if_neg (by omega)])
    refine ⟨g', ?_, h2⟩
    rw [← e2, e_X9_writes_l28]
    unfold s_X9_writes_l28_st
    rw [show w32 40 = 40 from rfl, w32_id (x := (k : Int) + 1) (by omega) (by omega), if_neg (by omega), a_gR T, bsome, bsome, e1, bsome, a_uR T (by omega) t8, bsome]
    rfl
/-- where the next act goes, and the order then -/
theorem x9_writes (T : ST sh S) {π : Nat → Nat} (hπ : AP2 sh S π) {n : Nat} {f : Int} {q2 q3 : Nat} {d : Int} {c1 c2 : Int → Int} (hn : n ≤ 40) (h9 : I S 9 = n) (Q2 : FA sh q2) (Q3 : FA sh q3) (n2 : q2 < S + 45 ∨ S + 244 < q2) (n3 : q3 < S + 45 ∨ S + 244 < q3) (m2 : q2 ≠ S ∧ q2 + 1 ≠ S) (m3 : q3 ≠ S ∧ q3 + 1 ≠ S) (hd : d ≤ 40) (hf2 : FM I q2 p d c1) (hf3 : FM I q3 p d c2) :
    ∃ (c : Nat) (g : Int → Option Nat) (π' : Nat → Nat) (I' : Nat → Int → Int), s_X9_writes S f q2 q3 (sh, I, J) = some (shA2 sh S g, I', J) ∧ (c = if n = 40 then 39 else n) ∧ AP2 (shA2 sh S g) S π' ∧ (∀ k, k < c → π' k = π (if n = 40 then k + 1 else k)) ∧ I' (S + 45 + 5 * π' c) 2 = f ∧ FM I' (S + 45 + 5 * π' c + 1) p d c1 ∧ FM I' (S + 45 + 5 * π' c + 3) p d c2 ∧ I' S = upz (upz (I S) 8 ((c : Int) + 1)) 9 ((c : Int) + 1) ∧ ∀ b, b ≠ S → (b < S + 45 + 5 * π' c ∨ S + 45 + 5 * π' c + 4 < b) → I' b = I b := by
  have self : shA2 sh S (sh.2.2.2 (S + 12)) = sh := by
    show (sh.1, sh.2.1, sh.2.2.1, up1 sh.2.2.2 (S + 12) (sh.2.2.2 (S + 12))) = sh
    rw [up1_id]
  obtain ⟨I1, hI1⟩ : ∃ I1, up1 I S (upz (I S) 8 (n : Int)) = I1 := ⟨_, rfl⟩
  have o1 : ∀ b, b ≠ S → I1 b = I b := fun b h => by rw [← hI1, up1_n _ _ h]
  have s1 : I1 S = upz (I S) 8 n := by rw [← hI1, up1_s]
  have hf2' : FM I1 q2 p d c1 := hf2.eq (o1 _ m2.1) (o1 _ m2.2)
  have hf3' : FM I1 q3 p d c2 := hf3.eq (o1 _ m3.1) (o1 _ m3.2)
  unfold s_X9_writes
  rw [s_gI T, bsome, h9, s_pI T, bsome, hI1, s_gI T, bsome, s1, upz_s, show w32 40 = 40 from rfl, w32_id (x := (n : Int)) (by omega) (by omega)]
  by_cases h : n = 40
  · rw [if_pos (by omega), s_ac T, bsome]
    have p0 := hπ.1 0 (by omega)
    have r0 := s_act (I := I1) (J := J) T (k := 0) (by omega) p0.2
    have t80 := (T.ca p0.1).1
    rw [show ((0 : Nat) : Int) = 0 from rfl] at r0
    rw [r0, bsome]
    obtain ⟨g, e1, hg⟩ := x9_shift (I := I1) (J := J) T hπ (f := f) (q2 := q2) (q3 := q3) (a := S + 45 + 5 * π 0) 39 0 (sh.2.2.2 (S + 12)) (by omega) (fun j hj => by rw [if_neg (by omega)]; exact (hπ.1 j hj).2)
    rw [self, show ((0 : Nat) : Int) = 0 from rfl] at e1
    rw [e1]
    obtain ⟨g2, hg2⟩ : ∃ g2, upz g 39 (some (S + 45 + 5 * π 0)) = g2 := ⟨_, rfl⟩
    obtain ⟨π', hπe⟩ : ∃ π' : Nat → Nat, π' = fun j => if j < 39 then π (j + 1) else π 0 := ⟨_, rfl⟩
    have pe : ∀ j, π' j = if j < 39 then π (j + 1) else π 0 := fun j => by rw [hπe]
    have hA : AP2 (shA2 sh S g2) S π' := by
      refine ⟨fun k hk => ?_, fun i j hi hj e => ?_⟩
      · have er : (shA2 sh S g2).2.2.2 (S + 12) k = g2 k := congrFun (up1_s _ _ _) _
        rw [er, pe, ← hg2]
        by_cases c : k < 39
        · rw [if_pos c, upz_n _ _ (by omega), hg k hk, if_pos c]
          exact ⟨(hπ.1 (k + 1) (by omega)).1, rfl⟩
        · rw [if_neg c, show (k : Int) = 39 by omega, upz_s]
          exact ⟨p0.1, rfl⟩
      · rw [pe, pe] at e
        have inj := hπ.2
        split at e <;> split at e
        · have := inj (i + 1) (j + 1) (by omega) (by omega) e
          omega
        · have := inj (i + 1) 0 (by omega) (by omega) e
          omega
        · have := inj 0 (j + 1) (by omega) (by omega) e
          omega
        · omega
    have T2 : ST (shA2 sh S g2) S := T.acts ⟨π', hA⟩
    obtain ⟨I2, hI2⟩ : ∃ I2, up1 I1 S (upz (I1 S) 8 39) = I2 := ⟨_, rfl⟩
    have o2 : ∀ b, b ≠ S → I2 b = I b := fun b h => by rw [← hI2, up1_n _ _ h, o1 b h]
    have s2 : I2 S = upz (I S) 8 39 := by rw [← hI2, up1_s, s1, upz_upz]
    have Q2' : FA (shA2 sh S g2) q2 := ⟨Q2.1, by show up1 sh.2.2.2 (S + 12) g2 q2 0 = _; rw [up1_n _ _ (fun e => by have := Q2.1; have h2 := T.2.2.2.2.1.2.1; rw [e] at this; omega)]; exact Q2.2.1, Q2.2.2⟩
    have Q3' : FA (shA2 sh S g2) q3 := ⟨Q3.1, by show up1 sh.2.2.2 (S + 12) g2 q3 0 = _; rw [up1_n _ _ (fun e => by have := Q3.1; have h2 := T.2.2.2.2.1.2.1; rw [e] at this; omega)]; exact Q3.2.1, Q3.2.2⟩
    have r39 := (hA.1 39 (by omega))
    obtain ⟨I3, e3, a3, b3, c3, d3, o3⟩ := x9_b78 (J := J) T2 (c := 39) (i := π' 39) (f := f) (by omega) r39.1 (by rw [s2, upz_s]; rfl) r39.2 Q2' Q3' n2 n3 m2 m3 hd (hf2.eq (o2 _ m2.1) (o2 _ m2.2)) (hf3.eq (o2 _ m3.1) (o2 _ m3.2))
    refine ⟨39, g2, π', I3, ?_, by rw [if_pos h], hA, fun k hk => by rw [pe, if_pos hk, if_pos h], by rw [a3, upz_s], b3, c3, by rw [d3, s2, upz_upz], fun b u v => by rw [o3 b u v, o2 b u]⟩
    unfold s_X9_writes_b59
    have u39 := a_uR (I := I1) (J := J) T (g := g) (k := 39) (v := S + 45 + 5 * π 0) (by omega) t80
    rw [show ((39 : Nat) : Int) = 39 from rfl, hg2] at u39
    rw [a_gR T, bsome, u39, bsome, s_gI T2, bsome, s1, upz_s, s_pI T2, bsome, s1, h, upz_upz, show ((40 : Nat) : Int) - 1 = 39 from rfl]
    rw [s1, upz_upz] at hI2
    rw [hI2]
    exact e3
  · rw [if_neg (by omega)]
    have pn := hπ.1 n (by omega)
    obtain ⟨I3, e3, a3, b3, c3, d3, o3⟩ := x9_b78 (J := J) T (c := n) (i := π n) (f := f) (by omega) pn.1 (by rw [s1, upz_s]) pn.2 Q2 Q3 n2 n3 m2 m3 hd hf2' hf3'
    refine ⟨n, sh.2.2.2 (S + 12), π, I3, by rw [self]; exact e3, by rw [if_neg h], by rw [self]; exact hπ, fun k hk => by rw [if_neg h], by rw [a3, upz_s], b3, c3, by rw [d3, s1, upz_upz], fun b u v => by rw [o3 b u v, o1 b u]⟩
end CMx

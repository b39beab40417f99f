/-! what signs are: trees; the twin reads them as steps -/
set_option maxRecDepth 100000
/-- a tree of at most so many storeys: the form itself, a number, minus, two joined (2 added, 3 multiplied, 4 overlapped so often) -/
def Tr : Nat → Type
  | 0 => Empty
  | n + 1 => Unit ⊕ (Int ⊕ (Tr n ⊕ ((Int × Int) × (Tr n × Tr n))))
def Tr.post : (n : Nat) → Tr n → List (Int × Int)
  | 0, t => Empty.elim t
  | _ + 1, .inl _ => [(0, 0)]
  | _ + 1, .inr (.inl v) => [(1, v)]
  | n + 1, .inr (.inr (.inl t)) => Tr.post n t ++ [(5, 0)]
  | n + 1, .inr (.inr (.inr (o, t1, t2))) => Tr.post n t1 ++ (Tr.post n t2 ++ [o])
abbrev Fo : Type := Nat × (Int → Int)
def jnV (o : Int × Int) (a b : Fo) : Option Fo :=
  if o.1 = 2 then (if a.1 = b.1 then some (a.1, fun k => a.2 k + b.2 k) else none)
  else if o.1 = 3 then (if a.1 + b.1 ≤ 40 then some (a.1 + b.1, mulP a.1 a.2 (cl b.1 b.2)) else none)
  else if o.2 ≤ a.1 ∧ o.2 ≤ b.1 ∧ (a.1 : Int) + b.1 - 2 * o.2 ≤ 40 then some (((a.1 : Int) + b.1 - 2 * o.2).toNat, ovP a.1 b.1 o.2.toNat a.2 b.2) else none
def Tr.val (F : Fo) : (n : Nat) → Tr n → Option Fo
  | 0, t => Empty.elim t
  | _ + 1, .inl _ => some F
  | _ + 1, .inr (.inl v) => some (0, cst v)
  | n + 1, .inr (.inr (.inl t)) => (Tr.val F n t).map fun c => (c.1, fun k => 0 - c.2 k)
  | n + 1, .inr (.inr (.inr (o, t1, t2))) => (Tr.val F n t1).bind fun a => (Tr.val F n t2).bind fun b => jnV o a b
def jnR (w : Int) (o : Int × Int) (a b : Int) : Int :=
  if a < 0 ∨ b < 0 ∨ (o.1 = 2 ∧ a ≠ b) then -1 else if o.1 = 2 then a else a + b + (if w ≠ 0 ∧ o.1 = 4 then o.2 else 0)
def Tr.rk (w : Int) : (n : Nat) → Tr n → Int
  | 0, t => Empty.elim t
  | _ + 1, .inl _ => if w = 0 then 1 else 0
  | _ + 1, .inr (.inl _) => 0
  | n + 1, .inr (.inr (.inl t)) => Tr.rk w n t
  | n + 1, .inr (.inr (.inr (o, t1, t2))) => jnR w o (Tr.rk w n t1) (Tr.rk w n t2)
def Tr.lv : (n : Nat) → Tr n → Nat
  | 0, t => Empty.elim t
  | _ + 1, .inl _ => 1
  | _ + 1, .inr (.inl _) => 1
  | n + 1, .inr (.inr (.inl t)) => Tr.lv n t
  | n + 1, .inr (.inr (.inr (_, t1, t2))) => Tr.lv n t1 + Tr.lv n t2
def okO (o : Int × Int) : Prop := (o.1 = 2 ∨ o.1 = 3 ∨ o.1 = 4) ∧ 0 ≤ o.2 ∧ o.2 ≤ 8
def Tr.wf : (n : Nat) → Tr n → Prop
  | 0, t => Empty.elim t
  | _ + 1, .inl _ => True
  | _ + 1, .inr (.inl v) => 0 ≤ v ∧ v ≤ 999
  | n + 1, .inr (.inr (.inl t)) => Tr.wf n t
  | n + 1, .inr (.inr (.inr (o, t1, t2))) => okO o ∧ Tr.wf n t1 ∧ Tr.wf n t2
theorem Tr.lv_pos : ∀ (n : Nat) (t : Tr n), 1 ≤ Tr.lv n t
  | 0, t => Empty.elim t
  | _ + 1, .inl _ => Nat.le_refl 1
  | _ + 1, .inr (.inl _) => Nat.le_refl 1
  | n + 1, .inr (.inr (.inl t)) => Tr.lv_pos n t
  | n + 1, .inr (.inr (.inr (_, t1, t2))) => by
    have := Tr.lv_pos n t1
    show 1 ≤ Tr.lv n t1 + Tr.lv n t2
    omega
theorem jnV_d {o : Int × Int} {a b v : Fo} (ha : a.1 ≤ 40) (h : jnV o a b = some v) : v.1 ≤ 40 := by
  unfold jnV at h
  by_cases h2 : o.1 = 2
  · rw [if_pos h2] at h
    by_cases h4 : a.1 = b.1
    · rw [if_pos h4] at h
      rw [← Option.some.inj h]
      exact ha
    · rw [if_neg h4] at h
      cases h
  · rw [if_neg h2] at h
    by_cases h3 : o.1 = 3
    · rw [if_pos h3] at h
      by_cases h4 : a.1 + b.1 ≤ 40
      · rw [if_pos h4] at h
        rw [← Option.some.inj h]
        exact h4
      · rw [if_neg h4] at h
        cases h
    · rw [if_neg h3] at h
      by_cases h4 : o.2 ≤ a.1 ∧ o.2 ≤ b.1 ∧ (a.1 : Int) + b.1 - 2 * o.2 ≤ 40
      · rw [if_pos h4] at h
        rw [← Option.some.inj h]
        dsimp only
        omega
      · rw [if_neg h4] at h
        cases h
theorem Tr.val_d {F : Fo} (hF : F.1 ≤ 40) : ∀ (n : Nat) (t : Tr n) (v : Fo), Tr.val F n t = some v → v.1 ≤ 40
  | 0, t, _, _ => Empty.elim t
  | _ + 1, .inl _, v, h => by rw [← Option.some.inj (show some F = some v from h)]; exact hF
  | _ + 1, .inr (.inl c), v, h => by rw [← Option.some.inj (show some ((0, cst c) : Fo) = some v from h)]; exact Nat.zero_le _
  | n + 1, .inr (.inr (.inl t)), v, h => by
    obtain ⟨c, h1, h2⟩ := ms_ (show (Tr.val F n t).map _ = some v from h)
    rw [← h2]
    exact Tr.val_d hF n t c h1
  | n + 1, .inr (.inr (.inr (o, t1, t2))), v, h => by
    obtain ⟨a, h1, h2⟩ := bs (show (Tr.val F n t1).bind _ = some v from h)
    obtain ⟨b, h3, h4⟩ := bs h2
    exact jnV_d (Tr.val_d hF n t1 a h1) h4
theorem jnR_b {w : Int} {o : Int × Int} {a b x y : Int} (ho : okO o) (ha : -1 ≤ a ∧ a ≤ x) (hb : -1 ≤ b ∧ b ≤ y) (hx : 0 ≤ x) (hy : 0 ≤ y) : -1 ≤ jnR w o a b ∧ jnR w o a b ≤ x + y + 8 := by
  obtain ⟨-, h1, h2⟩ := ho
  unfold jnR
  split
  · omega
  · split
    · omega
    · split <;> omega
theorem Tr.rk_b (w : Int) : ∀ (n : Nat) (t : Tr n), Tr.wf n t → -1 ≤ Tr.rk w n t ∧ Tr.rk w n t ≤ 9 * Tr.lv n t - 8
  | 0, t, _ => Empty.elim t
  | _ + 1, .inl _, _ => by
    show -1 ≤ (if w = 0 then 1 else 0) ∧ (if w = 0 then 1 else 0) ≤ 9 * ((1 : Nat) : Int) - 8
    split <;> omega
  | _ + 1, .inr (.inl _), _ => by
    show -1 ≤ (0 : Int) ∧ (0 : Int) ≤ 9 * ((1 : Nat) : Int) - 8
    omega
  | n + 1, .inr (.inr (.inl t)), h => Tr.rk_b w n t h
  | n + 1, .inr (.inr (.inr (o, t1, t2))), h => by
    obtain ⟨h0, h1, h2⟩ := (show okO o ∧ Tr.wf n t1 ∧ Tr.wf n t2 from h)
    have a := Tr.rk_b w n t1 h1
    have b := Tr.rk_b w n t2 h2
    have l1 := Tr.lv_pos n t1
    have l2 := Tr.lv_pos n t2
    have := jnR_b (w := w) h0 a b (by omega) (by omega)
    show -1 ≤ jnR w o _ _ ∧ jnR w o _ _ ≤ 9 * ((Tr.lv n t1 + Tr.lv n t2 : Nat) : Int) - 8
    omega
/-- steps lie in the world from the i-th on -/
def LSt (W : Int → Int) (s : Int) : Int → List (Int × Int) → Prop
  | _, [] => True
  | i, o :: r => (W (198 + 401 * s + 1 + 2 * i) = o.1 ∧ W (198 + 401 * s + 2 + 2 * i) = o.2) ∧ LSt W s (i + 1) r
theorem LSt_app {W : Int → Int} {s : Int} : ∀ {i : Int} {a b : List (Int × Int)}, LSt W s i (a ++ b) ↔ LSt W s i a ∧ LSt W s (i + a.length) b
  | i, [], b => by
    show LSt W s i b ↔ True ∧ LSt W s (i + ((0 : Nat) : Int)) b
    rw [show i + ((0 : Nat) : Int) = i by omega]
    exact ⟨fun h => ⟨trivial, h⟩, fun h => h.2⟩
  | i, o :: a, b => by
    have := LSt_app (W := W) (s := s) (i := i + 1) (a := a) (b := b)
    rw [show i + 1 + (a.length : Int) = i + ((a.length + 1 : Nat) : Int) by omega] at this
    show (_ ∧ LSt W s (i + 1) (a ++ b)) ↔ (_ ∧ LSt W s (i + 1) a) ∧ LSt W s (i + ((a.length + 1 : Nat) : Int)) b
    rw [this]
    exact ⟨fun ⟨h1, h2, h3⟩ => ⟨⟨h1, h2⟩, h3⟩, fun ⟨⟨h1, h2⟩, h3⟩ => ⟨h1, h2, h3⟩⟩
/-- signs of the world are a tree -/
def SgW (W : Int → Int) (s : Int) (n : Nat) (t : Tr n) : Prop := W (198 + 401 * s) = (Tr.post n t).length ∧ (Tr.post n t).length ≤ 199 ∧ LSt W s 0 (Tr.post n t) ∧ Tr.wf n t ∧ Tr.lv n t ≤ 20
/-- rows that making touches -/
def mkS (top : Int) (q : Int) : Prop := (top ≤ q ∧ q < 40) ∨ q = 43 ∨ q = 45 ∨ q = 46 ∨ q = 47
section TG
variable {sh : Sh} {I J : Nat → Int → Int} {m : Nat} {p : Int}
theorem t_stepOf (T : TL sh m) {s i : Int} (h0 : 0 ≤ s) (h1 : s < 8) (h2 : 0 ≤ i) (h3 : i < 200) : s_X11_stepOf m s i (sh, I, J) = some (I (m + 1) (198 + 401 * s + 1 + 2 * i), (sh, I, J)) := by
  unfold s_X11_stepOf
  simp (disch := omega) only [bsome, t_ck T, t_gI T, t_pI T, t_gJ T, t_pJ T, tR_world T, tA_world T, tU_world T]
theorem t_toldBy (T : TL sh m) {s i : Int} (h0 : 0 ≤ s) (h1 : s < 8) (h2 : 0 ≤ i) (h3 : i < 200) : s_X11_toldBy m s i (sh, I, J) = some (I (m + 1) (198 + 401 * s + 2 + 2 * i), (sh, I, J)) := by
  unfold s_X11_toldBy
  simp (disch := omega) only [bsome, t_ck T, t_gI T, t_pI T, t_gJ T, t_pJ T, tR_world T, tA_world T, tU_world T]
theorem t_stepsOf (T : TL sh m) {s : Int} (h0 : 0 ≤ s) (h1 : s < 8) : s_X11_stepsOf m s (sh, I, J) = some (I (m + 1) (198 + 401 * s), (sh, I, J)) := by
  unfold s_X11_stepsOf
  simp (disch := omega) only [bsome, t_ck T, t_gI T, t_pI T, t_gJ T, t_pJ T, tR_world T, tA_world T, tU_world T]
/-- a row is changed number by number, by what it held -/
theorem row_loop {ρ : Type} {f : Int × Me → Option ((Int × Me) ⊕ ρ)} {r d : Int} {x y : Int → Int} (g : Me → Option ρ) (hr : 0 ≤ r ∧ r < 48) (hd : -1 ≤ d ∧ d ≤ 40) (hx : RW I m p r d x)
    (step : ∀ (i : Nat) (I2 : Nat → Int → Int), (i : Int) ≤ d → I2 (m + 3) r = d → I2 (m + 4) (41 * r + i) = x i % p → RF m (fun q => q = r) I I2 → f ((i : Int), (sh, I2, J)) = some (.inl ((i : Int) + 1, (sh, up1 I2 (m + 4) (upz (I2 (m + 4)) (41 * r + i) (y i % p)), J))))
    (stop : ∀ I2 : Nat → Int → Int, I2 (m + 3) r = d → RF m (fun q => q = r) I I2 → f (d + 1, (sh, I2, J)) = (g (sh, I2, J)).map Sum.inr) :
    ∃ I', whileO f (0, (sh, I, J)) = g (sh, I', J) ∧ RW I' m p r d y ∧ RF m (fun q => q = r) I I' := by
  obtain ⟨I', hI'⟩ : ∃ I', I' = up1 I (m + 4) (wr (I (m + 4)) (41 * r) (d + 1).toNat (fun i => y i % p)) := ⟨_, rfl⟩
  have hRF : ∀ n : Nat, n ≤ 41 → RF m (fun q => q = r) I (up1 I (m + 4) (wr (I (m + 4)) (41 * r) n (fun i => y i % p))) := by
    intro n hn
    refine ⟨fun a u v => up1_n _ _ v, fun q u v w => ⟨by rw [up1_n _ _ (by omega)], fun k a b => ?_⟩⟩
    rw [up1_s, wr_out (by omega)]
  have h3 : ∀ n : Nat, up1 I (m + 4) (wr (I (m + 4)) (41 * r) n (fun i => y i % p)) (m + 3) r = d := fun n => by rw [up1_n _ _ (by omega), hx.1]
  refine ⟨I', ?_, ⟨by rw [hI']; exact h3 _, fun k a b => ?_⟩, by rw [hI']; exact hRF _ (by omega)⟩
  · have e : ∀ (n : Nat), n = (d + 1).toNat → ∀ z, whileO f ((d + 1), (sh, up1 I (m + 4) (wr (I (m + 4)) (41 * r) n (fun i => y i % p)), J)) = z → whileO f (0, (sh, I, J)) = z := by
      intro n hn z hz
      suffices H : ∀ k : Nat, k ≤ n → whileO f (((n - k : Nat) : Int), (sh, up1 I (m + 4) (wr (I (m + 4)) (41 * r) (n - k) (fun i => y i % p)), J)) = z by
        have h := H n (Nat.le_refl _)
        rw [Nat.sub_self, wr_0, up1_id] at h
        exact h
      intro k
      induction k with
      | zero =>
        intro _
        rw [Nat.sub_zero, show (n : Int) = d + 1 by omega]
        exact hz
      | succ k ih =>
        intro hk
        have h1 := ih (by omega)
        obtain ⟨i, hi⟩ : ∃ i : Nat, n - (k + 1) = i := ⟨_, rfl⟩
        rw [hi]
        rw [show n - k = i + 1 by omega] at h1
        have h2 := step i (up1 I (m + 4) (wr (I (m + 4)) (41 * r) i (fun i => y i % p))) (by omega) (h3 _) (by rw [up1_s, wr_out (by omega), hx.2 i (by omega) (by omega)]) (hRF _ (by omega))
        rw [whileO_eq, h2, up1_s, up1_up1]
        have h4 := wr_step (I (m + 4)) (41 * r) i (fun i => y i % p)
        rw [h4]
        exact h1
    refine e _ rfl _ ?_
    rw [whileO_eq, stop _ (h3 _) (hRF _ (by omega)), ← hI']
    cases g (sh, I', J) <;> rfl
  · rw [hI', up1_s, wr_in (by omega) (by omega), show (((41 * r + k - 41 * r).toNat : Nat) : Int) = k by omega]
theorem t_joins (T : TL sh m) (hI : I (m + 1) 0 = p) (hp : Pp p) {o : Int × Int} {a : Int} {x y : Fo} (ho : okO o) (ha : 0 ≤ a ∧ a + 1 < 40) (hx1 : x.1 ≤ 40) (hy1 : y.1 ≤ 40) (hx : RW I m p a x.1 x.2) (hy : RW I m p (a + 1) y.1 y.2) :
    (∀ v, jnV o x y = some v → ∃ I', s_X11_joins m o.1 o.2 a (a + 1) (sh, I, J) = some (1, (sh, I', J)) ∧ RW I' m p a v.1 v.2 ∧ RF m (fun q => q = a ∨ q = 43 ∨ q = 45 ∨ q = 46 ∨ q = 47) I I') ∧
    (jnV o x y = none → s_X11_joins m o.1 o.2 a (a + 1) (sh, I, J) = some (0, (sh, I, J))) := by
  obtain ⟨n, x⟩ := x
  obtain ⟨l, y⟩ := y
  obtain ⟨ho1, ho2, ho3⟩ := ho
  obtain ⟨op, k⟩ := o
  dsimp only at *
  have fin : ∀ (I1 : Nat → Int → Int) (d : Nat) (z : Int → Int), d ≤ 40 → RW I1 m p 43 d z → RF m (fun q => q = 43 ∨ q = 45 ∨ q = 46 ∨ q = 47) I I1 →
      ∃ I', s_X11_joins_b171 m a (sh, I1, J) = some (1, (sh, I', J)) ∧ RW I' m p a d z ∧ RF m (fun q => q = a ∨ q = 43 ∨ q = 45 ∨ q = 46 ∨ q = 47) I I' := by
    intro I1 d z hd hz hF
    obtain ⟨I2, e2, r2, f2⟩ := t_copies (J := J) T (r := 43) (to := a) (by omega) (by omega) (by omega) hz
    unfold s_X11_joins_b171
    simp only [t_ck T, bsome, e2]
    exact ⟨_, rfl, r2, (hF.mono (fun q h => by omega)).trans (f2.mono (fun q h => by omega))⟩
  unfold jnV s_X11_joins
  dsimp only
  rw [w32_id (x := op) (by omega) (by omega), show w32 2 = 2 from rfl, show w32 3 = 3 from rfl]
  rcases ho1 with rfl | rfl | rfl
  · rw [if_pos rfl, if_pos rfl]
    simp (disch := omega) only [bsome, t_ck T, t_gI T, t_pI T, t_gJ T, t_pJ T, tR_deg T, tA_deg T, tU_deg T, hx.1, hy.1, w32_id]
    by_cases h : n = l
    · subst h
      rw [if_pos rfl, if_pos rfl]
      refine ⟨fun v hv => ?_, fun hv => by cases hv⟩
      rw [← Option.some.inj hv]
      unfold s_X11_joins_l26
      have hlp := row_loop (sh := sh) (J := J) (f := fun s : Int × Me => s_X11_joins_l26_st m a (a + 1) s.1 s.2) (y := fun k => x k + y k) (fun μ => some ((1 : Int), μ)) (show 0 ≤ a ∧ a < 48 by omega) (show -1 ≤ (n : Int) ∧ (n : Int) ≤ 40 by omega) hx ?_ ?_
      · obtain ⟨I', h1, h2, h3⟩ := hlp
        exact ⟨I', h1, h2, h3.mono (fun q h => Or.inl h)⟩
      · intro i I2 hi g1 g2 g3
        have hy2 := (hy.keep g3 (by omega) (by omega) (by omega) (by omega)).2 i (by omega) hi
        unfold s_X11_joins_l26_st
        dsimp only
        simp (disch := omega) only [bsome, t_ck T, t_gI T, t_pI T, t_gJ T, t_pJ T, tR_deg T, tA_deg T, tU_deg T, g1, w32_id, if_neg, t_of T, g2, hy2, t_plusM T (g3.pw hI) hp, t_put T]
      · intro I2 g1 g3
        unfold s_X11_joins_l26_st
        dsimp only
        simp (disch := omega) only [bsome, t_ck T, t_gI T, t_pI T, t_gJ T, t_pJ T, tR_deg T, tA_deg T, tU_deg T, g1, w32_id, if_pos]
        rfl
    · rw [if_neg h, if_neg (by omega)]
      exact ⟨fun v hv => (by cases hv), fun _ => rfl⟩
  · rw [if_neg (show ¬ (3 : Int) = 2 by decide), if_neg (show ¬ (3 : Int) = 2 by decide), if_pos rfl, if_pos rfl]
    simp (disch := omega) only [bsome, t_ck T, t_gI T, t_pI T, t_gJ T, t_pJ T, tR_deg T, tA_deg T, tU_deg T, hx.1, hy.1, w32_id]
    by_cases h : n + l ≤ 40
    · rw [if_pos h, if_pos (by omega)]
      refine ⟨fun v hv => ?_, fun hv => by cases hv⟩
      rw [← Option.some.inj hv]
      obtain ⟨I1, e1, r1, f1⟩ := t_multiplies (J := J) T hI hp (to := 43) (show 0 ≤ a ∧ a < 48 ∧ a ≠ 43 by omega) (show 0 ≤ a + 1 ∧ a + 1 < 48 ∧ a + 1 ≠ 43 by omega) (by omega) h hx hy.cl (Sup.cl _ _)
      obtain ⟨I2, e2, r2, f2⟩ := fin I1 (n + l) _ h (by rw [Int.natCast_add]; exact r1) (f1.mono (fun q h => Or.inl h))
      unfold s_X11_joins_b144
      rw [show w32 3 = 3 from rfl, if_pos rfl]
      simp only [t_ck T, bsome, e1]
      exact ⟨I2, e2, r2, f2⟩
    · rw [if_neg h, if_neg (by omega)]
      exact ⟨fun v hv => (by cases hv), fun _ => rfl⟩
  · rw [if_neg (show ¬ (4 : Int) = 2 by decide), if_neg (show ¬ (4 : Int) = 2 by decide), if_neg (show ¬ (4 : Int) = 3 by decide), if_neg (show ¬ (4 : Int) = 3 by decide)]
    simp (disch := omega) only [bsome, t_ck T, t_gI T, t_pI T, t_gJ T, t_pJ T, tR_deg T, tA_deg T, tU_deg T, hx.1, hy.1, w32_id]
    by_cases h1 : (n : Int) < k
    · rw [if_pos h1, if_neg (by omega)]
      exact ⟨fun v hv => (by cases hv), fun _ => rfl⟩
    · rw [if_neg h1]
      by_cases h2 : (l : Int) < k
      · rw [if_pos h2, if_neg (by omega)]
        exact ⟨fun v hv => (by cases hv), fun _ => rfl⟩
      · rw [if_neg h2]
        by_cases h3 : (n : Int) + l - 2 * k < 41
        · rw [if_pos h3, if_pos (by omega)]
          refine ⟨fun v hv => ?_, fun hv => by cases hv⟩
          rw [← Option.some.inj hv]
          obtain ⟨k', hk'⟩ : ∃ k' : Nat, k = k' := ⟨k.toNat, by omega⟩
          subst hk'
          obtain ⟨I1, e1, r1, f1⟩ := t_overlaps (J := J) T hI hp (r := a) (q := a + 1) (to := 43) (k := k') (by omega) (by omega) (by omega) (by omega) (by omega) (by omega) hx1 hy1 (by omega) hx hy
          obtain ⟨I2, e2, r2, f2⟩ := fin I1 ((n : Int) + l - 2 * k').toNat _ (by omega) (by rw [Int.toNat_of_nonneg (by omega)]; exact r1) f1
          unfold s_X11_joins_b144
          rw [show w32 4 = 4 from rfl, show w32 3 = 3 from rfl, if_neg (by decide)]
          simp only [t_ck T, bsome, e1]
          exact ⟨I2, e2, by rw [Int.toNat_natCast]; exact r2, f2⟩
        · rw [if_neg h3, if_neg (by omega)]
          exact ⟨fun v hv => (by cases hv), fun _ => rfl⟩
theorem l4_eq (s top i : Int) (μ : Me) : s_X11_makes_l4 m s top i μ = (s_X11_makes_l4_st m s top i μ).bind fun x => x.elim (fun z => s_X11_makes_l4 m s z.1 z.2.1 z.2.2) some := by
  unfold s_X11_makes_l4
  rw [whileO_eq]
theorem mkS_mono {a b : Int} (h : a ≤ b) (q : Int) (hq : mkS b q) : mkS a q := by
  unfold mkS at hq ⊢
  omega
/-- a tree is made on the rows from the top on, or there is no value -/
theorem t_tree (T : TL sh m) (hp : Pp p) {W : Int → Int} (hW0 : W 0 = p) {s : Int} (hs : 0 ≤ s ∧ s < 8) {F : Fo} (hF : F.1 ≤ 40) (hlen : W (198 + 401 * s) ≤ 199) :
    ∀ (n : Nat) (t : Tr n) (i top : Int) (I : Nat → Int → Int), Tr.wf n t → I (m + 1) = W → 0 ≤ i → i + (Tr.post n t).length ≤ W (198 + 401 * s) → LSt W s i (Tr.post n t) → 0 ≤ top → top + Tr.lv n t ≤ 40 → RW I m p 44 F.1 F.2 →
      (∀ v, Tr.val F n t = some v → ∃ I', s_X11_makes_l4 m s top i (sh, I, J) = s_X11_makes_l4 m s (top + 1) (i + (Tr.post n t).length) (sh, I', J) ∧ RW I' m p top v.1 v.2 ∧ RF m (mkS top) I I') ∧
      (Tr.val F n t = none → ∃ I', s_X11_makes_l4 m s top i (sh, I, J) = some (0, (sh, I', J)) ∧ RF m (mkS top) I I')
  | 0, t, _, _, _, _, _, _, _, _, _, _, _ => Empty.elim t
  | n + 1, .inl u, i, top, I, _, hI, hi, hle, hL, ht, htl, hR => by
    have hle : i + 1 ≤ W (198 + 401 * s) := hle
    have hL : (W (198 + 401 * s + 1 + 2 * i) = 0 ∧ W (198 + 401 * s + 2 + 2 * i) = 0) ∧ True := hL
    have htl : top + 1 ≤ 40 := htl
    refine ⟨fun v hv => ?_, fun hv => by cases hv⟩
    rw [← Option.some.inj (show some F = some v from hv)]
    obtain ⟨I2, e2, r2, f2⟩ := t_copies (J := J) T (r := 44) (to := top) (by omega) (by omega) (by omega) hR
    refine ⟨I2, ?_, r2, f2.mono (fun q h => by unfold mkS; omega)⟩
    rw [l4_eq]
    unfold s_X11_makes_l4_st
    simp (disch := omega) only [t_ck T, bsome, t_stepsOf T, t_stepOf T, hI, w32_id, if_neg, hL.1.1, if_pos, e2]
    rfl
  | n + 1, .inr (.inl c), i, top, I, hwf, hI, hi, hle, hL, ht, htl, hR => by
    have hle : i + 1 ≤ W (198 + 401 * s) := hle
    have hL : (W (198 + 401 * s + 1 + 2 * i) = 1 ∧ W (198 + 401 * s + 2 + 2 * i) = c) ∧ True := hL
    have htl : top + 1 ≤ 40 := htl
    have hwf : 0 ≤ c ∧ c ≤ 999 := hwf
    refine ⟨fun v hv => ?_, fun hv => by cases hv⟩
    rw [← Option.some.inj (show some ((0, cst c) : Fo) = some v from hv)]
    obtain ⟨I2, e2, r2, f2⟩ := t_clearsR (I := I) (J := J) (p := p) T (r := top) (d := 0) (by omega) (by omega) (by omega) (by omega)
    obtain ⟨I3, e3, a1, a2, a3, f3⟩ := t_putR (I := I2) (J := J) T (r := top) (k := 0) (v := c % p) (by omega) (by omega) (by omega) (by omega)
    have hI2 : I2 (m + 1) = W := by rw [f2.w, hI]
    refine ⟨I3, ?_, ⟨by rw [a2]; exact r2.1, fun k h0 h1 => ?_⟩, (f2.trans f3).mono (fun q h => by unfold mkS; omega)⟩
    · have e4 := fun a b => t_mod (I := I2) (J := J) (v := c) T (by rw [hI2, hW0]) hp a b
      rw [l4_eq]
      unfold s_X11_makes_l4_st
      simp (disch := omega) only [t_ck T, bsome, t_stepsOf T, t_stepOf T, hI, w32_id, if_neg, hL.1.1, if_pos, e2, t_toldBy T, hI2, hL.1.2, e4, e3]
      rfl
    · have hk : k = 0 := by dsimp only at h1; omega
      subst hk
      rw [a1]
      rfl
  | n + 1, .inr (.inr (.inl t)), i, top, I, hwf, hI, hi, hle, hL, ht, htl, hR => by
    have hlen2 : (Tr.post (n + 1) (.inr (.inr (.inl t)))).length = (Tr.post n t).length + 1 := by
      show (Tr.post n t ++ [((5 : Int), (0 : Int))]).length = _
      simp
    rw [hlen2] at hle ⊢
    have hL := LSt_app.mp (show LSt W s i (Tr.post n t ++ [(5, 0)]) from hL)
    have hL2 : (W (198 + 401 * s + 1 + 2 * (i + (Tr.post n t).length)) = 5 ∧ W (198 + 401 * s + 2 + 2 * (i + (Tr.post n t).length)) = 0) ∧ True := hL.2
    have htl : top + Tr.lv n t ≤ 40 := htl
    have hlv := Tr.lv_pos n t
    obtain ⟨g1, g2⟩ := t_tree T hp hW0 hs hF hlen n t i top I hwf hI hi (by omega) hL.1 ht htl hR
    refine ⟨fun v hv => ?_, fun hv => ?_⟩
    · obtain ⟨c, h1, h2⟩ := ms_ (show (Tr.val F n t).map _ = some v from hv)
      obtain ⟨I2, e2, r2, f2⟩ := g1 c h1
      have hc := Tr.val_d hF n t c h1
      rw [← h2]
      have hI2 : I2 (m + 1) = W := by rw [f2.w, hI]
      have hlp := row_loop (sh := sh) (J := J) (f := fun z : Int × Me => s_X11_makes_l83_st m s (top + 1) (i + (Tr.post n t).length) z.1 z.2) (y := fun k => 0 - c.2 k) (fun μ => some (Sum.inl (top + 1, i + ((Tr.post n t).length : Int) + 1, μ))) (show 0 ≤ top ∧ top < 48 by omega) (show -1 ≤ (c.1 : Int) ∧ (c.1 : Int) ≤ 40 by omega) r2 ?_ ?_
      · obtain ⟨I', k1, k2, k3⟩ := hlp
        refine ⟨I', ?_, k2, f2.trans (k3.mono (fun q h => by unfold mkS; omega))⟩
        rw [e2, l4_eq]
        have e9 : s_X11_makes_l83 m s (top + 1) (i + (Tr.post n t).length) 0 (sh, I2, J) = some (Sum.inl (top + 1, i + ((Tr.post n t).length : Int) + 1, (sh, I', J))) := k1
        unfold s_X11_makes_l4_st
        simp (disch := omega) only [t_ck T, bsome, t_stepsOf T, t_stepOf T, hI2, w32_id, if_neg, hL2.1.1, if_pos, e9]
        rw [Int.natCast_add, Int.natCast_one, ← Int.add_assoc]
        rfl
      · intro j I3 hj b1 b2 b3
        have hI3 : I3 (m + 1) 0 = p := by rw [b3.w, hI2, hW0]
        rw [show 41 * top + (j : Int) = 41 * (top + 1 - 1) + j by omega] at b2 ⊢
        unfold s_X11_makes_l83_st
        dsimp only
        rw [show top + 1 - 1 = top by omega] at b2 ⊢
        simp (disch := omega) only [bsome, t_ck T, t_gI T, t_pI T, t_gJ T, t_pJ T, tR_deg T, tA_deg T, tU_deg T, b1, w32_id, if_neg, t_of T, b2, t_less0 T hI3 hp, t_put T]
      · intro I3 b1 b3
        unfold s_X11_makes_l83_st s_X11_makes_b125
        dsimp only
        rw [show top + 1 - 1 = top by omega]
        simp (disch := omega) only [bsome, t_ck T, t_gI T, t_pI T, t_gJ T, t_pJ T, tR_deg T, tA_deg T, tU_deg T, b1, w32_id, if_pos]
    · cases h1 : Tr.val F n t with
      | some c =>
        have : (Tr.val F n t).map (fun c : Fo => ((c.1, fun k => 0 - c.2 k) : Fo)) = none := hv
        rw [h1] at this
        cases this
      | none => exact g2 h1
  | n + 1, .inr (.inr (.inr (o, t1, t2))), i, top, I, hwf, hI, hi, hle, hL, ht, htl, hR => by
    have hlen2 : (Tr.post (n + 1) (.inr (.inr (.inr (o, t1, t2))))).length = (Tr.post n t1).length + (Tr.post n t2).length + 1 := by
      show (Tr.post n t1 ++ (Tr.post n t2 ++ [o])).length = _
      simp
      omega
    rw [hlen2] at hle ⊢
    have hL1 := LSt_app.mp (show LSt W s i (Tr.post n t1 ++ (Tr.post n t2 ++ [o])) from hL)
    have hL2 := LSt_app.mp hL1.2
    have hL3 : (W (198 + 401 * s + 1 + 2 * (i + (Tr.post n t1).length + (Tr.post n t2).length)) = o.1 ∧ W (198 + 401 * s + 2 + 2 * (i + (Tr.post n t1).length + (Tr.post n t2).length)) = o.2) ∧ True := hL2.2
    have htl : top + ((Tr.lv n t1 + Tr.lv n t2 : Nat) : Int) ≤ 40 := htl
    obtain ⟨ho, w1, w2⟩ := (show okO o ∧ Tr.wf n t1 ∧ Tr.wf n t2 from hwf)
    have l1 := Tr.lv_pos n t1
    have l2 := Tr.lv_pos n t2
    obtain ⟨g1, g2⟩ := t_tree T hp hW0 hs hF hlen n t1 i top I w1 hI hi (by omega) hL1.1 ht (by omega) hR
    cases h1 : Tr.val F n t1 with
    | none =>
      have e : Tr.val F (n + 1) (.inr (.inr (.inr (o, t1, t2)))) = none := by
        show (Tr.val F n t1).bind _ = none
        rw [h1]
        rfl
      rw [e]
      exact ⟨fun v hv => (by cases hv), fun _ => g2 h1⟩
    | some a =>
      obtain ⟨I2, e2, r2, f2⟩ := g1 a h1
      have hI2 : I2 (m + 1) = W := by rw [f2.w, hI]
      have hR2 := hR.keep f2 (by unfold mkS; omega) (by omega) (by omega) (by omega)
      obtain ⟨k1, k2⟩ := t_tree T hp hW0 hs hF hlen n t2 (i + (Tr.post n t1).length) (top + 1) I2 w2 hI2 (by omega) (by omega) hL2.1 (by omega) (by omega) hR2
      have ha := Tr.val_d hF n t1 a h1
      cases h2 : Tr.val F n t2 with
      | none =>
        have e : Tr.val F (n + 1) (.inr (.inr (.inr (o, t1, t2)))) = none := by
          show (Tr.val F n t1).bind (fun a => (Tr.val F n t2).bind fun b => jnV o a b) = none
          rw [h1, h2]
          rfl
        rw [e]
        obtain ⟨I3, e3, f3⟩ := k2 h2
        exact ⟨fun v hv => (by cases hv), fun _ => ⟨I3, by rw [e2, e3], f2.trans (f3.mono (mkS_mono (by omega)))⟩⟩
      | some b =>
        obtain ⟨I3, e3, r3, f3⟩ := k1 b h2
        have hb := Tr.val_d hF n t2 b h2
        have e : Tr.val F (n + 1) (.inr (.inr (.inr (o, t1, t2)))) = jnV o a b := by
          show (Tr.val F n t1).bind (fun a => (Tr.val F n t2).bind fun b => jnV o a b) = jnV o a b
          rw [h1, h2]
          rfl
        rw [e]
        have hI3 : I3 (m + 1) = W := by rw [f3.w, hI2]
        have r2' := r2.keep f3 (by unfold mkS; omega) (by omega) (by omega) (by omega)
        obtain ⟨j1, j2⟩ := t_joins (J := J) T (by rw [hI3, hW0]) hp ho (show 0 ≤ top ∧ top + 1 < 40 by omega) ha hb r2' r3
        have ho1 := ho.1
        have hst : ∀ z, s_X11_joins m o.1 o.2 top (top + 1) (sh, I3, J) = some z → s_X11_makes_l4 m s (top + 1 + 1) (i + (Tr.post n t1).length + (Tr.post n t2).length) (sh, I3, J) = if w32 z.1 = 0 then some (0, z.2) else s_X11_makes_l4 m s (top + 1) (i + (((Tr.post n t1).length + (Tr.post n t2).length + 1 : Nat) : Int)) z.2 := by
          intro z hz
          rw [l4_eq]
          unfold s_X11_makes_l4_st
          simp (disch := omega) only [t_ck T, bsome, t_stepsOf T, t_stepOf T, t_toldBy T, hI3, w32_id (x := W (198 + 401 * s)), w32_id (x := i + ((Tr.post n t1).length : Int) + ((Tr.post n t2).length : Int)), w32_id (x := o.1), w32_id (x := 1), w32_id (x := 5), if_neg, hL3.1.1, hL3.1.2]
          rw [show top + 1 + 1 + -1 - 1 = top by omega, show top + 1 + 1 + -1 = top + 1 by omega, hz, bsome]
          by_cases h9 : w32 z.1 = 0
          · rw [if_pos h9, if_pos h9]
            rfl
          · rw [if_neg h9, if_neg h9, show i + (((Tr.post n t1).length + (Tr.post n t2).length + 1 : Nat) : Int) = i + (Tr.post n t1).length + (Tr.post n t2).length + 1 by omega]
            rfl
        refine ⟨fun v hv => ?_, fun hv => ?_⟩
        · obtain ⟨I4, e4, r4, f4⟩ := j1 v hv
          refine ⟨I4, ?_, r4, (f2.trans (f3.mono (mkS_mono (by omega)))).trans (f4.mono (fun q h => by unfold mkS; omega))⟩
          rw [e2, e3, hst _ e4]
          rfl
        · refine ⟨I3, ?_, f2.trans (f3.mono (mkS_mono (by omega)))⟩
          rw [e2, e3, hst _ (j2 hv)]
          rfl
theorem t_makes (T : TL sh m) (hI : I (m + 1) 0 = p) (hp : Pp p) {s : Int} (hs : 0 ≤ s ∧ s < 8) {F : Fo} (hF : F.1 ≤ 40) {n : Nat} {t : Tr n} (hS : SgW (I (m + 1)) s n t) (hR : RW I m p 44 F.1 F.2) :
    (∀ v, Tr.val F n t = some v → ∃ I', s_X11_makes m s (sh, I, J) = some (1, (sh, I', J)) ∧ RW I' m p 0 v.1 v.2 ∧ RF m (mkS 0) I I') ∧
    (Tr.val F n t = none → ∃ I', s_X11_makes m s (sh, I, J) = some (0, (sh, I', J)) ∧ RF m (mkS 0) I I') := by
  obtain ⟨h1, h2, h3, h4, h5⟩ := hS
  obtain ⟨g1, g2⟩ := t_tree (J := J) T hp (W := I (m + 1)) hI hs hF (by omega) n t 0 0 I h4 rfl (by omega) (by omega) h3 (by omega) (by omega) hR
  refine ⟨fun v hv => ?_, g2⟩
  obtain ⟨I', e1, r1, f1⟩ := g1 v hv
  refine ⟨I', ?_, r1, f1⟩
  have hw : I' (m + 1) (198 + 401 * s) = (Tr.post n t).length := by rw [f1.w, h1]
  unfold s_X11_makes
  rw [e1, l4_eq]
  unfold s_X11_makes_l4_st
  simp (disch := omega) only [t_ck T, bsome, t_stepsOf T, hw, w32_id, if_pos]
  rfl
end TG

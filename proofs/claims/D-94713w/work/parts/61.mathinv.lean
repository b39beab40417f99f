/-! mixing by a table, then by its inverse -/
set_option maxRecDepth 100000
theorem mixP_0 (a b c d : Int) (x : Int → Int) : mixP 0 a b c d x = cst (x 0) := by
  funext i
  show 0 + itL 0 c d (itL 0 a b (cst (x (0 : Nat)))) i = _
  rw [Int.zero_add]
  rfl
theorem mixP_itL (n j : Nat) (a b a1 b1 c1 d1 : Int) (g : Int → Int) (hg : Sup n g) : mixP (n + j) a1 b1 c1 d1 (itL j a b g) = itL j (a * a1 + b * c1) (a * b1 + b * d1) (mixP n a1 b1 c1 d1 g) := by
  induction j with
  | zero => rfl
  | succ j ih =>
    show mixP ((n + j) + 1) a1 b1 c1 d1 (mulL a b (itL j a b g)) = mulL _ _ (itL j _ _ _)
    rw [mixP_mulL _ _ _ _ _ _ _ _ (by have := hg.itL (u := a) (v := b) j; rwa [← Int.natCast_add] at this), ih]
theorem mixP_sm (n N : Nat) (a b c d : Int) (F : Nat → Int → Int) : mixP n a b c d (fun i => sm N (fun k => F k i)) = fun i => sm N (fun k => mixP n a b c d (F k) i) := by
  induction N with
  | zero =>
    funext i
    show sm (n + 1) (fun k => itL k c d (itL (n - k) a b (cst 0)) i) = 0
    have : ∀ m : Nat, sm m (fun k => itL k c d (itL (n - k) a b (cst 0)) i) = 0 := by
      intro m
      induction m with
      | zero => rfl
      | succ m ih =>
        show sm m _ + itL m c d (itL (n - m) a b (cst 0)) i = 0
        rw [ih, cst_0, itL_0, itL_0]
        rfl
    exact this _
  | succ N ih =>
    funext i
    show sm (n + 1) (fun k => itL k c d (itL (n - k) a b (cst (sm N (fun l => F l k) + F N k))) i) = sm N (fun k => mixP n a b c d (F k) i) + mixP n a b c d (F N) i
    have h := congrFun ih i
    rw [← h]
    unfold mixP
    rw [← sm_add]
    refine sm_congr (fun k _ => ?_)
    have e := cst_lin 1 1 (sm N (fun l => F l k)) (F N k)
    rw [Int.one_mul, Int.one_mul] at e
    rw [e, itL_lin, itL_lin]
    dsimp only
    rw [Int.one_mul, Int.one_mul]
/-- by a table, then by another one -/
theorem mixP_mixP (n : Nat) (a b c d a1 b1 c1 d1 : Int) (x : Int → Int) : mixP n a1 b1 c1 d1 (mixP n a b c d x) = mixP n (a * a1 + b * c1) (a * b1 + b * d1) (c * a1 + d * c1) (c * b1 + d * d1) x := by
  show mixP n a1 b1 c1 d1 (fun i => sm (n + 1) (fun k => itL k c d (itL (n - k) a b (cst (x k))) i)) = _
  rw [mixP_sm]
  funext i
  refine sm_congr (fun k hk => ?_)
  have s1 := (Sup.cst (v := x k)).itL (u := a) (v := b) (n - k)
  rw [Int.zero_add] at s1
  have e1 := mixP_itL (n - k) k c d a1 b1 c1 d1 _ s1
  rw [show n - k + k = n by omega] at e1
  have e2 := mixP_itL 0 (n - k) a b a1 b1 c1 d1 (cst (x k)) Sup.cst
  rw [Nat.zero_add, mixP_0] at e2
  rw [e1, e2]
  rfl
/-- the same modulo p -/
def eqm (p : Int) (f g : Int → Int) : Prop := ∀ k, f k % p = g k % p
theorem eqm_mulL {p u v u2 v2 : Int} {f g : Int → Int} (h : eqm p f g) (hu : u % p = u2 % p) (hv : v % p = v2 % p) : eqm p (mulL u v f) (mulL u2 v2 g) := by
  intro k
  unfold mulL
  rw [Int.add_emod, Int.mul_emod, h k, hu, ← Int.mul_emod, Int.mul_emod v, h (k - 1), hv, ← Int.mul_emod, ← Int.add_emod]
theorem eqm_itL {p u v u2 v2 : Int} {f g : Int → Int} (h : eqm p f g) (hu : u % p = u2 % p) (hv : v % p = v2 % p) : ∀ n : Nat, eqm p (itL n u v f) (itL n u2 v2 g)
  | 0 => h
  | n + 1 => eqm_mulL (eqm_itL h hu hv n) hu hv
theorem eqm_sm {p : Int} {F G : Nat → Int} : ∀ {n : Nat}, (∀ k, k < n → F k % p = G k % p) → sm n F % p = sm n G % p
  | 0, _ => rfl
  | n + 1, h => by
    show (sm n F + F n) % p = (sm n G + G n) % p
    rw [Int.add_emod, eqm_sm (fun k hk => h k (by omega)), h n (by omega), ← Int.add_emod]
theorem eqm_mixP {p : Int} {n : Nat} {a b c d a2 b2 c2 d2 : Int} {x y : Int → Int} (h : ∀ k : Int, 0 ≤ k → k ≤ n → x k % p = y k % p) (ha : a % p = a2 % p) (hb : b % p = b2 % p) (hc : c % p = c2 % p) (hd : d % p = d2 % p) : eqm p (mixP n a b c d x) (mixP n a2 b2 c2 d2 y) := by
  intro i
  refine eqm_sm (fun k hk => ?_)
  refine eqm_itL (eqm_itL (fun j => ?_) ha hb _) hc hd _ i
  unfold cst
  split
  · exact h k (by omega) (by omega)
  · rfl
theorem itL_one (n : Nat) (f : Int → Int) : itL n 1 0 f = f := by
  induction n with
  | zero => rfl
  | succ n ih =>
    show mulL 1 0 (itL n 1 0 f) = f
    rw [ih]
    funext k
    unfold mulL
    omega
theorem itL_sh (n : Nat) (f : Int → Int) : itL n 0 1 f = fun k => f (k - n) := by
  induction n with
  | zero =>
    funext k
    show f k = f (k - 0)
    rw [Int.sub_zero]
  | succ n ih =>
    show mulL 0 1 (itL n 0 1 f) = _
    rw [ih]
    funext k
    unfold mulL
    dsimp only
    rw [show k - 1 - (n : Int) = k - ((n + 1 : Nat) : Int) by omega]
    omega
theorem mixP_one (n : Nat) (x : Int → Int) (i : Int) (h0 : 0 ≤ i) (h1 : i ≤ n) : mixP n 1 0 0 1 x i = x i := by
  unfold mixP
  have : ∀ m : Nat, sm m (fun k => itL k 0 1 (itL (n - k) 1 0 (cst (x k))) i) = if i < m then x i else 0 := by
    intro m
    induction m with
    | zero =>
      rw [if_neg (by omega)]
      rfl
    | succ m ih =>
      show sm m _ + itL m 0 1 (itL (n - m) 1 0 (cst (x m))) i = _
      rw [ih, itL_one, itL_sh]
      unfold cst
      dsimp only
      by_cases h : i = m
      · rw [if_neg (show ¬ i < (m : Int) by omega), if_pos (show i - (m : Int) = 0 by omega), if_pos (show i < ((m + 1 : Nat) : Int) by omega), h]
        omega
      · rw [if_neg (show ¬ i - (m : Int) = 0 by omega)]
        by_cases h2 : i < m
        · rw [if_pos h2, if_pos (by omega)]
          omega
        · rw [if_neg h2, if_neg (by omega)]
          rfl
  rw [this, if_pos (by omega)]
/-- undone by the inverse -/
theorem mixP_undo {p : Int} {n : Nat} {a b c d a1 b1 c1 d1 : Int} {x : Int → Int} (h1 : (a * a1 + b * c1) % p = 1 % p) (h2 : (a * b1 + b * d1) % p = 0 % p) (h3 : (c * a1 + d * c1) % p = 0 % p) (h4 : (c * b1 + d * d1) % p = 1 % p) (i : Int) (g0 : 0 ≤ i) (g1 : i ≤ n) : mixP n a1 b1 c1 d1 (mixP n a b c d x) i % p = x i % p := by
  rw [mixP_mixP, eqm_mixP (x := x) (y := x) (fun _ _ _ => rfl) h1 h2 h3 h4 i, mixP_one n x i g0 g1]

/-! mixing: Horner's way and the powers' way; the inverse undoes -/
set_option maxRecDepth 100000
theorem sm_congr {n : Nat} {f g : Nat → Int} (h : ∀ i, i < n → f i = g i) : sm n f = sm n g := by
  induction n with
  | zero => rfl
  | succ n ih =>
    show sm n f + f n = sm n g + g n
    rw [ih (fun i hi => h i (by omega)), h n (by omega)]
theorem sm_add (n : Nat) (f g : Nat → Int) : sm n (fun i => f i + g i) = sm n f + sm n g := by
  induction n with
  | zero => rfl
  | succ n ih =>
    show sm n _ + _ = (sm n f + f n) + (sm n g + g n)
    rw [ih]
    dsimp only
    omega
theorem sm_mul (n : Nat) (u : Int) (f : Nat → Int) : sm n (fun i => u * f i) = u * sm n f := by
  induction n with
  | zero => exact (Int.mul_zero u).symm
  | succ n ih =>
    show sm n _ + _ = u * (sm n f + f n)
    rw [ih, Int.mul_add]
theorem mulL_comm (a b c d : Int) (f : Int → Int) : mulL a b (mulL c d f) = mulL c d (mulL a b f) := by
  funext k
  unfold mulL
  grind
theorem itL_mulL (n : Nat) (a b c d : Int) (f : Int → Int) : itL n a b (mulL c d f) = mulL c d (itL n a b f) := by
  induction n with
  | zero => rfl
  | succ n ih =>
    show mulL a b (itL n a b (mulL c d f)) = mulL c d (mulL a b (itL n a b f))
    rw [ih, mulL_comm]
theorem mulL_sm (n : Nat) (u v : Int) (F : Nat → Int → Int) : mulL u v (fun i => sm n (fun k => F k i)) = fun i => sm n (fun k => mulL u v (F k) i) := by
  funext i
  unfold mulL
  rw [sm_add, sm_mul, sm_mul]
/-- Horner's way -/
def hoP (a b c d : Int) (x : Int → Int) : Nat → Int → Int
  | 0 => cst (x 0)
  | n + 1 => fun i => mulL a b (hoP a b c d x n) i + x (n + 1) * itL (n + 1) c d (cst 1) i
theorem itL_cst (n : Nat) (c d v : Int) : itL n c d (cst v) = fun i => v * itL n c d (cst 1) i := by
  induction n with
  | zero =>
    funext i
    unfold itL cst
    split <;> simp
  | succ n ih =>
    funext i
    show mulL c d (itL n c d (cst v)) i = v * mulL c d (itL n c d (cst 1)) i
    rw [ih]
    unfold mulL
    grind
theorem hoP_mixP (a b c d : Int) (x : Int → Int) (n : Nat) : hoP a b c d x n = mixP n a b c d x := by
  induction n with
  | zero =>
    funext i
    show cst (x 0) i = 0 + itL 0 c d (itL 0 a b (cst (x (0 : Nat)))) i
    rw [Int.zero_add]
    rfl
  | succ n ih =>
    funext i
    show mulL a b (hoP a b c d x n) i + x (n + 1) * itL (n + 1) c d (cst 1) i = sm (n + 1) _ + _
    rw [ih]
    unfold mixP
    rw [mulL_sm]
    congr 1
    · refine sm_congr (fun k hk => ?_)
      rw [← itL_mulL, show n + 1 - k = (n - k) + 1 by omega]
      rfl
    · dsimp only
      rw [Nat.sub_self]
      show _ = itL (n + 1) c d (cst (x ((n + 1 : Nat) : Int))) i
      rw [itL_cst (n + 1) c d (x _)]
      rfl
theorem sm_shift (n : Nat) (f : Nat → Int) : sm (n + 1) f = f 0 + sm n (fun i => f (i + 1)) := by
  induction n with
  | zero =>
    show (0 : Int) + f 0 = f 0 + 0
    omega
  | succ n ih =>
    show sm (n + 1) f + f (n + 1) = f 0 + (sm n (fun i => f (i + 1)) + f (n + 1))
    rw [ih]
    omega
theorem mulL_0 (u v : Int) : mulL u v (fun _ => 0) = fun _ => 0 := by
  funext k
  unfold mulL
  simp
theorem itL_0 (n : Nat) (u v : Int) : itL n u v (fun _ => 0) = fun _ => 0 := by
  induction n with
  | zero => rfl
  | succ n ih =>
    show mulL u v (itL n u v _) = _
    rw [ih, mulL_0]
theorem cst_0 : cst 0 = fun _ => 0 := by
  funext k
  unfold cst
  split <;> rfl
theorem itL_lin (n : Nat) (u v s t : Int) (f g : Int → Int) : itL n u v (fun k => s * f k + t * g k) = fun k => s * itL n u v f k + t * itL n u v g k := by
  induction n with
  | zero => rfl
  | succ n ih =>
    funext k
    show mulL u v (itL n u v _) k = s * mulL u v (itL n u v f) k + t * mulL u v (itL n u v g) k
    rw [ih]
    unfold mulL
    grind
theorem cst_lin (s t v w : Int) : cst (s * v + t * w) = fun k => s * cst v k + t * cst w k := by
  funext k
  unfold cst
  split <;> simp
/-- mixing a product with a form of degree 1 -/
theorem mixP_mulL (n : Nat) (a b a1 b1 c1 d1 : Int) (g : Int → Int) (hg : Sup n g) : mixP (n + 1) a1 b1 c1 d1 (mulL a b g) = mulL (a * a1 + b * c1) (a * b1 + b * d1) (mixP n a1 b1 c1 d1 g) := by
  funext i
  have e1 : mixP (n + 1) a1 b1 c1 d1 (mulL a b g) i = a * sm (n + 2) (fun k => itL k c1 d1 (itL (n + 1 - k) a1 b1 (cst (g k))) i) + b * sm (n + 2) (fun k => itL k c1 d1 (itL (n + 1 - k) a1 b1 (cst (g ((k : Int) - 1)))) i) := by
    unfold mixP
    rw [← sm_mul, ← sm_mul, ← sm_add]
    refine sm_congr (fun k _ => ?_)
    show itL k c1 d1 (itL (n + 1 - k) a1 b1 (cst (a * g k + b * g (k - 1)))) i = _
    rw [cst_lin, itL_lin, itL_lin]
  have e2 : sm (n + 2) (fun k => itL k c1 d1 (itL (n + 1 - k) a1 b1 (cst (g k))) i) = mulL a1 b1 (mixP n a1 b1 c1 d1 g) i := by
    show sm (n + 1) _ + itL (n + 1) c1 d1 (itL (n + 1 - (n + 1)) a1 b1 (cst (g ((n + 1 : Nat) : Int)))) i = _
    rw [hg ((n + 1 : Nat) : Int) (by omega), cst_0, itL_0, itL_0, Int.add_zero]
    unfold mixP
    rw [mulL_sm]
    refine sm_congr (fun k hk => ?_)
    rw [← itL_mulL, show n + 1 - k = (n - k) + 1 by omega]
    rfl
  have e3 : sm (n + 2) (fun k => itL k c1 d1 (itL (n + 1 - k) a1 b1 (cst (g ((k : Int) - 1)))) i) = mulL c1 d1 (mixP n a1 b1 c1 d1 g) i := by
    rw [sm_shift]
    rw [hg (((0 : Nat) : Int) - 1) (by omega), cst_0, itL_0, itL_0, Int.zero_add]
    unfold mixP
    rw [mulL_sm]
    refine sm_congr (fun k hk => ?_)
    rw [show ((k + 1 : Nat) : Int) - 1 = k by omega, show n + 1 - (k + 1) = n - k by omega]
    rfl
  rw [e1, e2, e3]
  unfold mulL
  grind

/-! the two together: each question is answered alike -/
set_option maxRecDepth 100000
section CAk
variable {sh : Sh} {I J : Nat → Int → Int} {x c : Nat}
theorem qc_look (V : IV sh I x (c + 1)) {f k : Int} (hf : i32 f) (hk : i32 k) : OCQ x c (s_X1_look x f k (sh, I, J)) (fun μ => s_X11_look (x + 678) f k μ) 3 100 := by
  have y := x_look (I := I) (J := J) V.L V.R V.S V.Wd hf hk
  by_cases h : (0 ≤ f ∧ f < I (x + 678 + 1) 1)
  · exact OCQ.g V (y.1 h) (fun sh1 I1 J2 _ T e => by have e1 := e (x + 678 + 1) (by omega) (by omega); have z := t_look (I := I1) (J := J2) T (by rw [e1]; exact V.Wd) hf hk; rw [e1] at z; exact z.1 h)
  · exact OCQ.b V (y.2 h) (Or.inl ⟨rfl, rfl⟩) (fun sh1 I1 J2 T e => by have e1 := e (x + 678 + 1) (by omega) (by omega); have z := t_look (I := I1) (J := J2) T (by rw [e1]; exact V.Wd) hf hk; rw [e1] at z; exact z.2 h)
theorem qc_at (V : IV sh I x (c + 1)) {f u v : Int} (hf : i32 f) (hu : i32 u) (hv : i32 v) : OCQ x c (s_X1_at x f u v (sh, I, J)) (fun μ => s_X11_at (x + 678) f u v μ) 3 100 := by
  have y := x_at (I := I) (J := J) V.L V.R V.S V.P V.Wd hf hu hv
  by_cases h : (0 ≤ f ∧ f < I (x + 678 + 1) 1)
  · exact OCQ.g V (y.1 h) (fun sh1 I1 J2 _ T e => by have e1 := e (x + 678 + 1) (by omega) (by omega); have z := t_at (I := I1) (J := J2) T (by rw [e1]; exact V.Wd) hf hu hv; rw [e1] at z; exact z.1 h)
  · exact OCQ.b V (y.2 h) (Or.inl ⟨rfl, rfl⟩) (fun sh1 I1 J2 T e => by have e1 := e (x + 678 + 1) (by omega) (by omega); have z := t_at (I := I1) (J := J2) T (by rw [e1]; exact V.Wd) hf hu hv; rw [e1] at z; exact z.2 h)
theorem qc_det (V : IV sh I x (c + 1)) {t : Int} (ht : i32 t) : OCQ x c (s_X1_det x t (sh, I, J)) (fun μ => s_X11_det (x + 678) t μ) 3 100 := by
  have y := x_det (I := I) (J := J) V.L V.R V.S V.P V.Wd ht
  by_cases h : (0 ≤ t ∧ t < I (x + 678 + 1) 2)
  · exact OCQ.g V (y.1 h) (fun sh1 I1 J2 _ T e => by have e1 := e (x + 678 + 1) (by omega) (by omega); have z := t_det (I := I1) (J := J2) T (by rw [e1]; exact V.Wd) ht; rw [e1] at z; exact z.1 h)
  · exact OCQ.b V (y.2 h) (Or.inl ⟨rfl, rfl⟩) (fun sh1 I1 J2 T e => by have e1 := e (x + 678 + 1) (by omega) (by omega); have z := t_det (I := I1) (J := J2) T (by rw [e1]; exact V.Wd) ht; rw [e1] at z; exact z.2 h)
theorem qc_told (V : IV sh I x (c + 1)) {t k : Int} (ht : i32 t) (hk : i32 k) : OCQ x c (s_X1_told x t k (sh, I, J)) (fun μ => s_X11_told (x + 678) t k μ) 3 100 := by
  have y := x_told (I := I) (J := J) V.L V.R V.S V.Wd ht hk
  by_cases h : (0 ≤ t ∧ t < I (x + 678 + 1) 2)
  · exact OCQ.g V (y.1 h) (fun sh1 I1 J2 _ T e => by have e1 := e (x + 678 + 1) (by omega) (by omega); have z := t_told (I := I1) (J := J2) T (by rw [e1]; exact V.Wd) ht hk; rw [e1] at z; exact z.1 h)
  · exact OCQ.b V (y.2 h) (Or.inl ⟨rfl, rfl⟩) (fun sh1 I1 J2 T e => by have e1 := e (x + 678 + 1) (by omega) (by omega); have z := t_told (I := I1) (J := J2) T (by rw [e1]; exact V.Wd) ht hk; rw [e1] at z; exact z.2 h)
theorem qc_count (V : IV sh I x (c + 1)) {r d k : Int} (hr : i32 r) (hd : i32 d) (hk : i32 k) : OCQ x c (s_X1_count x r d k (sh, I, J)) (fun μ => s_X11_count (x + 678) r d k μ) 0 100 := by
  have y := x_count (I := I) (J := J) V.L V.R hr hd hk
  by_cases h : ((0 ≤ r ∧ r ≤ 12) ∧ (1 ≤ d ∧ d ≤ 8) ∧ (0 ≤ k ∧ k ≤ 96))
  · exact OCQ.g V (y.1 h) (fun sh1 I1 J2 _ T e => by have z := t_count (I := I1) (J := J2) T hr hd hk; exact z.1 h)
  · exact OCQ.b V (y.2 h) (Or.inl ⟨rfl, rfl⟩) (fun sh1 I1 J2 T e => by have z := t_count (I := I1) (J := J2) T hr hd hk; exact z.2 h)
theorem qc_kind (V : IV sh I x (c + 1)) {f : Int} (hf : i32 f) : OCQ x c (s_X1_kind x f (sh, I, J)) (fun μ => s_X11_kind (x + 678) f μ) 3 100 := by
  have y := x_kind (I := I) (J := J) V.L V.R V.S V.P V.Wd hf
  by_cases h : (0 ≤ f ∧ f < I (x + 678 + 1) 1)
  · exact OCQ.g V (y.1 h) (fun sh1 I1 J2 _ T e => by have e1 := e (x + 678 + 1) (by omega) (by omega); have z := t_kind (I := I1) (J := J2) T (by rw [e1]; exact V.Wd) hf; rw [e1] at z; exact z.1 h)
  · exact OCQ.b V (y.2 h) (Or.inl ⟨rfl, rfl⟩) (fun sh1 I1 J2 T e => by have e1 := e (x + 678 + 1) (by omega) (by omega); have z := t_kind (I := I1) (J := J2) T (by rw [e1]; exact V.Wd) hf; rw [e1] at z; exact z.2 h)
theorem qc_orbit (V : IV sh I x (c + 1)) {f : Int} (hf : i32 f) : OCQ x c (s_X1_orbit x f (sh, I, J)) (fun μ => s_X11_orbit (x + 678) f μ) 3 100 := by
  have y := x_orbit (I := I) (J := J) V.L V.R V.S V.P V.Wd hf
  by_cases h : (0 ≤ f ∧ f < I (x + 678 + 1) 1)
  · exact OCQ.g V (y.1 h) (fun sh1 I1 J2 _ T e => by have e1 := e (x + 678 + 1) (by omega) (by omega); have z := t_orbit (I := I1) (J := J2) T (by rw [e1]; exact V.Wd) hf; rw [e1] at z; exact z.1 h)
  · exact OCQ.b V (y.2 h) (Or.inl ⟨rfl, rfl⟩) (fun sh1 I1 J2 T e => by have e1 := e (x + 678 + 1) (by omega) (by omega); have z := t_orbit (I := I1) (J := J2) T (by rw [e1]; exact V.Wd) hf; rw [e1] at z; exact z.2 h)
theorem qc_quotient (V : IV sh I x (c + 1)) {f g k : Int} (hf : i32 f) (hg : i32 g) (hk : i32 k) : OCQ x c (s_X1_quotient x f g k (sh, I, J)) (fun μ => s_X11_quotient (x + 678) f g k μ) 3 100 := by
  have y := x_quotient (I := I) (J := J) V.L V.R V.S V.P V.Wd hf hg hk
  by_cases h : (0 ≤ f ∧ f < I (x + 678 + 1) 1) ∧ (0 ≤ g ∧ g < I (x + 678 + 1) 1)
  · exact OCQ.g V (y.1 h.1 h.2) (fun sh1 I1 J2 _ T e => by have e1 := e (x + 678 + 1) (by omega) (by omega); have z := t_quotient (I := I1) (J := J2) T (by rw [e1]; exact V.Wd) hf hg hk; rw [e1] at z; exact z.1 h.1 h.2)
  · exact OCQ.b V (y.2 h) (Or.inl ⟨rfl, rfl⟩) (fun sh1 I1 J2 T e => by have e1 := e (x + 678 + 1) (by omega) (by omega); have z := t_quotient (I := I1) (J := J2) T (by rw [e1]; exact V.Wd) hf hg hk; rw [e1] at z; exact z.2 h)
theorem qc_plain (V : IV sh I x (c + 1)) {f : Int} (hf : i32 f) : OCQ x c (s_X1_plain x f (sh, I, J)) (fun μ => s_X11_plain (x + 678) f μ) 3 100 := by
  have y := x_plain (I := I) (J := J) V.L V.R V.S V.P V.Wd hf
  by_cases h : (0 ≤ f ∧ f < I (x + 678 + 1) 1)
  · exact OCQ.g V (y.1 h) (fun sh1 I1 J2 _ T e => by have e1 := e (x + 678 + 1) (by omega) (by omega); have z := t_plain (I := I1) (J := J2) T (by rw [e1]; exact V.Wd) hf; rw [e1] at z; exact z.1 h)
  · exact OCQ.b V (y.2 h) (Or.inl ⟨rfl, rfl⟩) (fun sh1 I1 J2 T e => by have e1 := e (x + 678 + 1) (by omega) (by omega); have z := t_plain (I := I1) (J := J2) T (by rw [e1]; exact V.Wd) hf; rw [e1] at z; exact z.2 h)
theorem qc_root (V : IV sh I x (c + 1)) {f t : Int} (hf : i32 f) (ht : i32 t) : OCQ x c (s_X1_root x f t (sh, I, J)) (fun μ => s_X11_root (x + 678) f t μ) 3 0 := by
  have y := x_root (I := I) (J := J) V.L V.R V.S V.P V.Wd hf ht
  by_cases h : (0 ≤ f ∧ f < I (x + 678 + 1) 1)
  · by_cases h2 : (0 ≤ t ∧ t ≤ I (x + 678 + 1) 0)
    · exact OCQ.g V (y.1 h h2) (fun sh1 I1 J2 _ T e => by have e1 := e (x + 678 + 1) (by omega) (by omega); have z := t_root (I := I1) (J := J2) T (by rw [e1]; exact V.Wd) hf ht; rw [e1] at z; exact z.1 h h2)
    · exact OCQ.b V (y.2.2 h h2) (Or.inr ⟨rfl, by decide, rfl⟩) (fun sh1 I1 J2 T e => by have e1 := e (x + 678 + 1) (by omega) (by omega); have z := t_root (I := I1) (J := J2) T (by rw [e1]; exact V.Wd) hf ht; rw [e1] at z; exact z.2.2 h h2)
  · exact OCQ.b V (y.2.1 h) (Or.inl ⟨rfl, rfl⟩) (fun sh1 I1 J2 T e => by have e1 := e (x + 678 + 1) (by omega) (by omega); have z := t_root (I := I1) (J := J2) T (by rw [e1]; exact V.Wd) hf ht; rw [e1] at z; exact z.2.1 h)
theorem qc_roots (V : IV sh I x (c + 1)) {f : Int} (hf : i32 f) : OCQ x c (s_X1_roots x f (sh, I, J)) (fun μ => s_X11_roots (x + 678) f μ) 3 100 := by
  have y := x_roots (I := I) (J := J) V.L V.R V.S V.P V.Wd hf
  by_cases h : (0 ≤ f ∧ f < I (x + 678 + 1) 1)
  · exact OCQ.g V (y.1 h) (fun sh1 I1 J2 _ T e => by have e1 := e (x + 678 + 1) (by omega) (by omega); have z := t_roots (I := I1) (J := J2) T (by rw [e1]; exact V.Wd) hf; rw [e1] at z; exact z.1 h)
  · exact OCQ.b V (y.2 h) (Or.inl ⟨rfl, rfl⟩) (fun sh1 I1 J2 T e => by have e1 := e (x + 678 + 1) (by omega) (by omega); have z := t_roots (I := I1) (J := J2) T (by rw [e1]; exact V.Wd) hf; rw [e1] at z; exact z.2 h)
theorem qc_empty (V : IV sh I x (c + 1)) {f : Int} (hf : i32 f) : OCQ x c (s_X1_empty x f (sh, I, J)) (fun μ => s_X11_empty (x + 678) f μ) 3 100 := by
  have y := x_empty (I := I) (J := J) V.L V.R V.S V.P V.Wd hf
  by_cases h : (0 ≤ f ∧ f < I (x + 678 + 1) 1)
  · exact OCQ.g V (y.1 h) (fun sh1 I1 J2 _ T e => by have e1 := e (x + 678 + 1) (by omega) (by omega); have z := t_empty (I := I1) (J := J2) T (by rw [e1]; exact V.Wd) hf; rw [e1] at z; exact z.1 h)
  · exact OCQ.b V (y.2 h) (Or.inl ⟨rfl, rfl⟩) (fun sh1 I1 J2 T e => by have e1 := e (x + 678 + 1) (by omega) (by omega); have z := t_empty (I := I1) (J := J2) T (by rw [e1]; exact V.Wd) hf; rw [e1] at z; exact z.2 h)
theorem qc_same (V : IV sh I x (c + 1)) {f g : Int} (hf : i32 f) (hg : i32 g) : OCQ x c (s_X1_same x f g (sh, I, J)) (fun μ => s_X11_same (x + 678) f g μ) 3 100 := by
  have y := x_same (I := I) (J := J) V.L V.R V.S V.P V.Wd hf hg
  by_cases h : (0 ≤ f ∧ f < I (x + 678 + 1) 1) ∧ (0 ≤ g ∧ g < I (x + 678 + 1) 1)
  · exact OCQ.g V (y.1 h.1 h.2) (fun sh1 I1 J2 _ T e => by have e1 := e (x + 678 + 1) (by omega) (by omega); have z := t_same (I := I1) (J := J2) T (by rw [e1]; exact V.Wd) hf hg; rw [e1] at z; exact z.1 h.1 h.2)
  · exact OCQ.b V (y.2 h) (Or.inl ⟨rfl, rfl⟩) (fun sh1 I1 J2 T e => by have e1 := e (x + 678 + 1) (by omega) (by omega); have z := t_same (I := I1) (J := J2) T (by rw [e1]; exact V.Wd) hf hg; rw [e1] at z; exact z.2 h)
theorem qc_keep (V : IV sh I x (c + 1)) {f : Int} (hf : i32 f) : OCQ x c (s_X1_keep x f (sh, I, J)) (fun μ => s_X11_keep (x + 678) f μ) 3 100 := by
  have y := x_keep (I := I) (J := J) V.L V.R V.S V.P V.Wd hf
  by_cases h : (0 ≤ f ∧ f < I (x + 678 + 1) 1)
  · exact OCQ.g V (y.1 h) (fun sh1 I1 J2 _ T e => by have e1 := e (x + 678 + 1) (by omega) (by omega); have z := t_keep (I := I1) (J := J2) T (by rw [e1]; exact V.Wd) hf; rw [e1] at z; exact z.1 h)
  · exact OCQ.b V (y.2 h) (Or.inl ⟨rfl, rfl⟩) (fun sh1 I1 J2 T e => by have e1 := e (x + 678 + 1) (by omega) (by omega); have z := t_keep (I := I1) (J := J2) T (by rw [e1]; exact V.Wd) hf; rw [e1] at z; exact z.2 h)
theorem qc_powers (V : IV sh I x (c + 1)) {f k : Int} (hf : i32 f) (hk : i32 k) : OCQ x c (s_X1_powers x f k (sh, I, J)) (fun μ => s_X11_powers (x + 678) f k μ) 3 0 := by
  have y := x_powers (I := I) (J := J) V.L V.R V.S V.P V.Wd hf hk
  by_cases h : (0 ≤ f ∧ f < I (x + 678 + 1) 1)
  · by_cases h2 : (0 < fD (I (x + 678 + 1)) f ∧ -1 ≤ k)
    · exact OCQ.g V (y.1 h h2) (fun sh1 I1 J2 _ T e => by have e1 := e (x + 678 + 1) (by omega) (by omega); have z := t_powers (I := I1) (J := J2) T (by rw [e1]; exact V.Wd) hf hk; rw [e1] at z; exact z.1 h h2)
    · exact OCQ.b V (y.2.2 h h2) (Or.inr ⟨rfl, by decide, rfl⟩) (fun sh1 I1 J2 T e => by have e1 := e (x + 678 + 1) (by omega) (by omega); have z := t_powers (I := I1) (J := J2) T (by rw [e1]; exact V.Wd) hf hk; rw [e1] at z; exact z.2.2 h h2)
  · exact OCQ.b V (y.2.1 h) (Or.inl ⟨rfl, rfl⟩) (fun sh1 I1 J2 T e => by have e1 := e (x + 678 + 1) (by omega) (by omega); have z := t_powers (I := I1) (J := J2) T (by rw [e1]; exact V.Wd) hf hk; rw [e1] at z; exact z.2.1 h)
theorem qc_common (V : IV sh I x (c + 1)) {f g k : Int} (hf : i32 f) (hg : i32 g) (hk : i32 k) : OCQ x c (s_X1_common x f g k (sh, I, J)) (fun μ => s_X11_common (x + 678) f g k μ) 3 100 := by
  have y := x_common (I := I) (J := J) V.L V.R V.S V.P V.Wd hf hg hk
  by_cases h : (0 ≤ f ∧ f < I (x + 678 + 1) 1) ∧ (0 ≤ g ∧ g < I (x + 678 + 1) 1)
  · exact OCQ.g V (y.1 h.1 h.2) (fun sh1 I1 J2 _ T e => by have e1 := e (x + 678 + 1) (by omega) (by omega); have z := t_common (I := I1) (J := J2) T (by rw [e1]; exact V.Wd) hf hg hk; rw [e1] at z; exact z.1 h.1 h.2)
  · exact OCQ.b V (y.2 h) (Or.inl ⟨rfl, rfl⟩) (fun sh1 I1 J2 T e => by have e1 := e (x + 678 + 1) (by omega) (by omega); have z := t_common (I := I1) (J := J2) T (by rw [e1]; exact V.Wd) hf hg hk; rw [e1] at z; exact z.2 h)
theorem qc_overlap (V : IV sh I x (c + 1)) {f g u k : Int} (hf : i32 f) (hg : i32 g) (hu : i32 u) (hk : i32 k) : OCQ x c (s_X1_overlap x f g u k (sh, I, J)) (fun μ => s_X11_overlap (x + 678) f g u k μ) 3 0 := by
  have y := x_overlap (I := I) (J := J) V.L V.R V.S V.P V.Wd hf hg hu hk
  by_cases h : (0 ≤ f ∧ f < I (x + 678 + 1) 1) ∧ (0 ≤ g ∧ g < I (x + 678 + 1) 1)
  · by_cases h2 : (0 ≤ u ∧ u ≤ fD (I (x + 678 + 1)) f ∧ u ≤ fD (I (x + 678 + 1)) g)
    · exact OCQ.g V (y.1 h.1 h.2 h2) (fun sh1 I1 J2 _ T e => by have e1 := e (x + 678 + 1) (by omega) (by omega); have z := t_overlap (I := I1) (J := J2) T (by rw [e1]; exact V.Wd) hf hg hu hk; rw [e1] at z; exact z.1 h.1 h.2 h2)
    · exact OCQ.b V (y.2.2 h.1 h.2 h2) (Or.inr ⟨rfl, by decide, rfl⟩) (fun sh1 I1 J2 T e => by have e1 := e (x + 678 + 1) (by omega) (by omega); have z := t_overlap (I := I1) (J := J2) T (by rw [e1]; exact V.Wd) hf hg hu hk; rw [e1] at z; exact z.2.2 h.1 h.2 h2)
  · exact OCQ.b V (y.2.1 h) (Or.inl ⟨rfl, rfl⟩) (fun sh1 I1 J2 T e => by have e1 := e (x + 678 + 1) (by omega) (by omega); have z := t_overlap (I := I1) (J := J2) T (by rw [e1]; exact V.Wd) hf hg hu hk; rw [e1] at z; exact z.2.1 h)
theorem qc_value (V : IV sh I x (c + 1)) {s f k : Int} (hs : i32 s) (hf : i32 f) (hk : i32 k) : OCQ x c (s_X1_value x s f k (sh, I, J)) (fun μ => s_X11_value (x + 678) s f k μ) 3 100 := by
  have y := x_value (I := I) (J := J) V.L V.R V.S V.P V.Wd hs hf hk
  by_cases h : (0 ≤ s ∧ s < I (x + 678 + 1) 3) ∧ (0 ≤ f ∧ f < I (x + 678 + 1) 1)
  · obtain ⟨t, g1, g2⟩ := y.1 h.1 h.2
    exact OCQ.g V g2 (fun sh1 I1 J2 _ T e => by have e1 := e (x + 678 + 1) (by omega) (by omega); have z := t_value (I := I1) (J := J2) T (by rw [e1]; exact V.Wd) hs hf hk; rw [e1] at z; exact z.1 _ _ h.1 h.2 g1)
  · exact OCQ.b V (y.2 h) (Or.inl ⟨rfl, rfl⟩) (fun sh1 I1 J2 T e => by have e1 := e (x + 678 + 1) (by omega) (by omega); have z := t_value (I := I1) (J := J2) T (by rw [e1]; exact V.Wd) hs hf hk; rw [e1] at z; exact z.2 h)
theorem qc_rank (V : IV sh I x (c + 1)) {s w : Int} (hs : i32 s) (hw : w = 0 ∨ w = 1) : OCQ x c (s_X1_rank x s w (sh, I, J)) (fun μ => s_X11_rank (x + 678) s w μ) 3 100 := by
  have y := x_rank (I := I) (J := J) V.L V.R V.S V.Wd hs hw
  by_cases h : 0 ≤ s ∧ s < I (x + 678 + 1) 3
  · obtain ⟨t, g1, g2⟩ := y.1 h
    exact OCQ.g V g2 (fun sh1 I1 J2 _ T e => by have e1 := e (x + 678 + 1) (by omega) (by omega); have z := t_rank (I := I1) (J := J2) T (by rw [e1]; exact V.Wd) hs hw; rw [e1] at z; exact z.1 _ _ h g1)
  · exact OCQ.b V (y.2 h) (Or.inl ⟨rfl, rfl⟩) (fun sh1 I1 J2 T e => by have e1 := e (x + 678 + 1) (by omega) (by omega); have z := t_rank (I := I1) (J := J2) T (by rw [e1]; exact V.Wd) hs hw; rw [e1] at z; exact z.2 h)
theorem qc_stays (V : IV sh I x (c + 1)) {s f u : Int} (hs : i32 s) (hf : i32 f) (hu : i32 u) : OCQ x c (s_X1_stays x s f u (sh, I, J)) (fun μ => s_X11_stays (x + 678) s f u μ) 3 100 := by
  have y := x_stays (I := I) (J := J) V.L V.R V.S V.P V.Wd hs hf hu
  by_cases h : (0 ≤ s ∧ s < I (x + 678 + 1) 3) ∧ (0 ≤ f ∧ f < I (x + 678 + 1) 1) ∧ (0 ≤ u ∧ u < I (x + 678 + 1) 2)
  · obtain ⟨t, g1, g2⟩ := y.1 h.1 h.2.1 h.2.2
    exact OCQ.g V g2 (fun sh1 I1 J2 _ T e => by have e1 := e (x + 678 + 1) (by omega) (by omega); have z := t_stays (I := I1) (J := J2) T (by rw [e1]; exact V.Wd) hs hf hu; rw [e1] at z; exact z.1 _ _ h.1 h.2.1 h.2.2 g1)
  · exact OCQ.b V (y.2 h) (Or.inl ⟨rfl, rfl⟩) (fun sh1 I1 J2 T e => by have e1 := e (x + 678 + 1) (by omega) (by omega); have z := t_stays (I := I1) (J := J2) T (by rw [e1]; exact V.Wd) hs hf hu; rw [e1] at z; exact z.2 h)
theorem qc_agree (V : IV sh I x (c + 1)) {s u d : Int} (hs : i32 s) (hu : i32 u) (hd : i32 d) : OCQ x c (s_X1_agree x s u d (sh, I, J)) (fun μ => s_X11_agree (x + 678) s u d μ) 3 0 := by
  have y := x_agree (I := I) (J := J) V.L V.R V.S V.P V.Wd hs hu hd
  by_cases h : (0 ≤ s ∧ s < I (x + 678 + 1) 3) ∧ (0 ≤ u ∧ u < I (x + 678 + 1) 3)
  · by_cases h2 : 0 ≤ d ∧ d ≤ 8
    · obtain ⟨t1, t2, g1, g2, g3⟩ := y.1 h.1 h.2 h2
      exact OCQ.g V g3 (fun sh1 I1 J2 _ T e => by have e1 := e (x + 678 + 1) (by omega) (by omega); have z := t_agree (I := I1) (J := J2) T (by rw [e1]; exact V.Wd) hs hu hd; rw [e1] at z; exact z.1 _ _ _ _ h.1 h.2 h2 g1 g2)
    · exact OCQ.b V (y.2.2 h h2) (Or.inr ⟨rfl, by decide, rfl⟩) (fun sh1 I1 J2 T e => by have e1 := e (x + 678 + 1) (by omega) (by omega); have z := t_agree (I := I1) (J := J2) T (by rw [e1]; exact V.Wd) hs hu hd; rw [e1] at z; exact z.2.2 h h2)
  · exact OCQ.b V (y.2.1 h) (Or.inl ⟨rfl, rfl⟩) (fun sh1 I1 J2 T e => by have e1 := e (x + 678 + 1) (by omega) (by omega); have z := t_agree (I := I1) (J := J2) T (by rw [e1]; exact V.Wd) hs hu hd; rw [e1] at z; exact z.2.1 h)
/-- the signs' trees, all at once -/
theorem IV.ts (V : IV sh I x (c + 1)) : ∃ ts : Tg, TsA sh I x (I (x + 678 + 1) 3) ts ∧ ∀ s : Nat, (s : Int) < I (x + 678 + 1) 3 → SgW (I (x + 678 + 1)) s (ts s).1 (ts s).2 := by
  have h4 := V.S.2.2.2.1
  have key : ∀ s : Nat, ∃ t : TT, (s : Int) < I (x + 678 + 1) 3 → ∃ a, sh.2.2.2 (x + 16 + 11) s = some a ∧ SgW (I (x + 678 + 1)) s t.1 t.2 ∧ SA sh I t.1 t.2 a ∧ t.1 ≤ 200 := by
    intro s
    by_cases h : (s : Int) < I (x + 678 + 1) 3
    · obtain ⟨t, g⟩ := h4 s h
      exact ⟨t, fun _ => g⟩
    · exact ⟨tCs 0, fun g => absurd g h⟩
  obtain ⟨ts, hts⟩ := Classical.axiomOfChoice key
  refine ⟨ts, fun s hs => ?_, fun s hs => ?_⟩
  · obtain ⟨a, g1, g2, g3, g4⟩ := hts s hs
    exact ⟨a, g1, g3, g2.2.2.2.1, g2.2.2.2.2, g4⟩
  · obtain ⟨a, g1, g2, g3, g4⟩ := hts s hs
    exact g2
theorem qc_span (V : IV sh I x (c + 1)) {s d u : Int} (hd : i32 d) : OCQ x c (s_X1_span x s d u (sh, I, J)) (fun μ => s_X11_span (x + 678) s d u μ) 0 100 := by
  obtain ⟨ts, h1, h2⟩ := V.ts
  have c3 := V.Wd.c3
  have y := x_span (I := I) (J := J) (set := s) (seed := u) V.L V.R V.P V.Wd.pp (n := (I (x + 678 + 1) 3).toNat) (by omega) (by rw [V.S.1.1.2.2.2]; omega) hd (ts := ts) (by rw [show (((I (x + 678 + 1) 3).toNat : Nat) : Int) = I (x + 678 + 1) 3 by omega]; exact h1)
  by_cases h : 1 ≤ d ∧ d ≤ 8
  · exact OCQ.gx V (y.1 h) (fun sh1 I1 J2 T e => by have e1 := e (x + 678 + 1) (by omega) (by omega); have z := t_span (I := I1) (J := J2) (set := s) (seed := u) T (by rw [e1]; exact V.Wd) hd (ts := ts) (by rw [e1]; exact h2); rw [e1] at z; exact (z.1 h).1)
  · exact OCQ.b V (y.2 h) (Or.inl ⟨rfl, rfl⟩) (fun sh1 I1 J2 T e => by have e1 := e (x + 678 + 1) (by omega) (by omega); have z := t_span (I := I1) (J := J2) (set := s) (seed := u) T (by rw [e1]; exact V.Wd) hd (ts := ts) (by rw [e1]; exact h2); rw [e1] at z; exact (z.2 h).1)
theorem qc_basis (V : IV sh I x (c + 1)) {s d u : Int} (hd : i32 d) : OCQ x c (s_X1_basis x s d u (sh, I, J)) (fun μ => s_X11_basis (x + 678) s d u μ) 0 100 := by
  obtain ⟨ts, h1, h2⟩ := V.ts
  have c3 := V.Wd.c3
  have y := x_basis (I := I) (J := J) (set := s) (seed := u) V.L V.R V.P V.Wd.pp (n := (I (x + 678 + 1) 3).toNat) (by omega) (by rw [V.S.1.1.2.2.2]; omega) hd (ts := ts) (by rw [show (((I (x + 678 + 1) 3).toNat : Nat) : Int) = I (x + 678 + 1) 3 by omega]; exact h1)
  by_cases h : 1 ≤ d ∧ d ≤ 8
  · exact OCQ.gx V (y.1 h) (fun sh1 I1 J2 T e => by have e1 := e (x + 678 + 1) (by omega) (by omega); have z := t_span (I := I1) (J := J2) (set := s) (seed := u) T (by rw [e1]; exact V.Wd) hd (ts := ts) (by rw [e1]; exact h2); rw [e1] at z; exact (z.1 h).2)
  · exact OCQ.b V (y.2 h) (Or.inl ⟨rfl, rfl⟩) (fun sh1 I1 J2 T e => by have e1 := e (x + 678 + 1) (by omega) (by omega); have z := t_span (I := I1) (J := J2) (set := s) (seed := u) T (by rw [e1]; exact V.Wd) hd (ts := ts) (by rw [e1]; exact h2); rw [e1] at z; exact (z.2 h).2)
theorem qc_classes (V : IV sh I x (c + 1)) {d w : Int} (hd : i32 d) (hw : w = 0 ∨ w = 1) : OCQ x c (s_X1_classes x d w (sh, I, J)) (fun μ => s_X11_classes (x + 678) d w μ) 0 100 := by
  have y := x_classes (I := I) (J := J) V.L V.R hd hw (I (x + 678) 35, I (x + 678) 36, I (x + 678) 37)
  by_cases h : okD d
  · exact OCQ.j V (y.1 h) (fun sh1 I1 J2 T e => by have z := t_classes (I := I1) (J := J2) T hd hw; rw [e (x + 678) (by omega) (by omega)] at z; exact z.1 h)
  · exact OCQ.b V (y.2 h) (Or.inl ⟨rfl, rfl⟩) (fun sh1 I1 J2 T e => by have z := t_classes (I := I1) (J := J2) T hd hw; exact z.2 h)
theorem qc_reducedAt (V : IV sh I x (c + 1)) {d k w : Int} (hd : i32 d) (hk : i32 k) (hw : i32 w) : OCQ x c (s_X1_reducedAt x d k w (sh, I, J)) (fun μ => s_X11_reducedAt (x + 678) d k w μ) 0 4 := by
  have y := x_reducedAt (I := I) (J := J) V.L V.R hd hk hw (I (x + 678) 35, I (x + 678) 36, I (x + 678) 37)
  by_cases h : okD d ∧ 0 ≤ k
  · by_cases h2 : 0 ≤ w ∧ w ≤ 2
    · exact OCQ.j V (y.1 h.1 h.2 h2) (fun sh1 I1 J2 T e => by have z := t_reducedAt (I := I1) (J := J2) T hd hk hw; rw [e (x + 678) (by omega) (by omega)] at z; exact z.1 h.1 h.2 h2)
    · exact OCQ.b V (y.2.2 h.1 h.2 h2) (Or.inr ⟨rfl, by decide, rfl⟩) (fun sh1 I1 J2 T e => by have z := t_reducedAt (I := I1) (J := J2) T hd hk hw; exact z.2.2 h.1 h.2 h2)
  · exact OCQ.b V (y.2.1 h) (Or.inl ⟨rfl, rfl⟩) (fun sh1 I1 J2 T e => by have z := t_reducedAt (I := I1) (J := J2) T hd hk hw; exact z.2.1 h)
theorem qc_reduced (V : IV sh I x (c + 1)) {u v w k : Int} (hu : i32 u) (hv : i32 v) (hw : i32 w) (hk : i32 k) : OCQ x c (s_X1_reduced x u v w k (sh, I, J)) (fun μ => s_X11_reduced (x + 678) u v w k μ) 0 4 := by
  have y := x_reduced (I := I) (J := J) V.L V.R hu hv hw hk
  by_cases h : rdOk u v w
  · by_cases h2 : 0 ≤ k ∧ k ≤ 8
    · exact OCQ.j V (y.1 h h2) (fun sh1 I1 J2 T e => by have z := t_reduced (I := I1) (J := J2) T hu hv hw hk; exact z.1 h h2)
    · exact OCQ.b V (y.2.2 h h2) (Or.inr ⟨rfl, by decide, rfl⟩) (fun sh1 I1 J2 T e => by have z := t_reduced (I := I1) (J := J2) T hu hv hw hk; exact z.2.2 h h2)
  · exact OCQ.b V (y.2.1 h) (Or.inl ⟨rfl, rfl⟩) (fun sh1 I1 J2 T e => by have z := t_reduced (I := I1) (J := J2) T hu hv hw hk; exact z.2.1 h)
theorem qc_real (V : IV sh I x (c + 1)) {u v w k l : Int} (hu : i32 u) (hv : i32 v) (hw : i32 w) (hk : i32 k) (hl : i32 l) : OCQ x c (s_X1_real x u v w k l (sh, I, J)) (fun μ => s_X11_real (x + 678) u v w k l μ) 0 100 := by
  have y := x_real (I := I) (J := J) V.L V.R hu hv hw hk hl (x + 678)
  by_cases h : okR u v w k l
  · obtain ⟨r, g1, g2⟩ := y.1 h
    exact OCQ.g V g2 (fun sh1 I1 J2 es T e => by have z := t_real (I := I1) (J := J2) T hu hv hw hk hl; rw [es] at z ⊢; exact z.1 h r (g1 _ _))
  · exact OCQ.b V (y.2 h) (Or.inl ⟨rfl, rfl⟩) (fun sh1 I1 J2 T e => by have z := t_real (I := I1) (J := J2) T hu hv hw hk hl; exact z.2 h)
end CAk

/-! int[n][k] -/
set_option maxRecDepth 100000
/-- new int[n][k]: the outer array at the next place, its n rows behind it -/
def nM (μ : Me) (n k : Int) : Option (Nat × Me) :=
  if (0 ≤ w32 n ∧ w32 n < 1000 ∧ 0 ≤ w32 k ∧ w32 k < 1000) ∧ 1 + (w32 n).toNat ≤ μ.1.1.2.1 ∧ (w32 n).toNat + (w32 n).toNat * (w32 k).toNat ≤ μ.1.1.2.2 then
    some (μ.1.1.1, (((μ.1.1.1 + 1 + (w32 n).toNat, μ.1.1.2.1 - (1 + (w32 n).toNat), μ.1.1.2.2 - ((w32 n).toNat + (w32 n).toNat * (w32 k).toNat)),
      (fun a => if a = μ.1.1.1 then 105 else if μ.1.1.1 < a ∧ a ≤ μ.1.1.1 + (w32 n).toNat then 101 else μ.1.2.1 a),
      (fun a => if a = μ.1.1.1 then w32 n else if μ.1.1.1 < a ∧ a ≤ μ.1.1.1 + (w32 n).toNat then w32 k else μ.1.2.2.1 a),
      (fun a => if a = μ.1.1.1 then (fun j => if 0 ≤ j ∧ j < w32 n then some (μ.1.1.1 + 1 + j.toNat) else none) else if μ.1.1.1 < a ∧ a ≤ μ.1.1.1 + (w32 n).toNat then (fun _ => none) else μ.1.2.2.2 a)),
      (fun a => if μ.1.1.1 ≤ a ∧ a ≤ μ.1.1.1 + (w32 n).toNat then (fun _ => 0) else μ.2.1 a),
      (fun a => if μ.1.1.1 ≤ a ∧ a ≤ μ.1.1.1 + (w32 n).toNat then (fun _ => 0) else μ.2.2 a)))
  else none
theorem oc_plain (c : ClassId) (N h0 : Nat) : ∀ i, (Jvm.Free.Multi.outerC c N h0 i).monitor = {} ∧ (Jvm.Free.Multi.outerC c N h0 i).hash = none
  | 0 => ⟨rfl, rfl⟩
  | i + 1 => by
    obtain ⟨a, b⟩ := oc_plain c N h0 i
    exact ⟨by simp [Jvm.Free.Multi.outerC, Cell.setSlot, a], by simp [Jvm.Free.Multi.outerC, Cell.setSlot, b]⟩
theorem cell_ext {a b : Cell} (h1 : a.cls = b.cls) (h2 : a.slots = b.slots) (h3 : a.vm = b.vm) (h4 : a.monitor = b.monitor) (h5 : a.hash = b.hash) : a = b := by
  cases a; cases b; simp at h1 h2 h3 h4 h5; subst h1 h2 h3 h4 h5; rfl
theorem oc_arrV (c : ClassId) (N h0 : Nat) : Jvm.Free.Multi.outerC c N h0 N = arrV c N (fun j => .ref (h0 + 1 + j)) := by
  obtain ⟨o1, o2, o3⟩ := Jvm.Free.Multi.outerC_facts c N h0 N
  obtain ⟨o4, o5⟩ := oc_plain c N h0 N
  refine cell_ext o1 ?_ o2 o4 o5
  apply Array.ext_getElem?
  intro j
  by_cases hj : j < N
  · rw [Jvm.Free.Multi.outerC_slot c N h0 N j hj, if_pos hj, arrV_read _ _ hj]
  · rw [Array.getElem?_eq_none (by omega), Array.getElem?_eq_none (by rw [arrV_size]; omega)]
theorem W.multi {p : Program} {l : Launch} {e : Env} {R : Room} {s : State} {m : MethodId} {args : Array Value} {below : List Frame} {meth : Method} {c : Code} {H : Heap} {locs : List Loc} {cells slots : Nat} {Q : State → Prop} {cc : ByteArray} (hexec : p.tables.exec = Jvm.exec) (hb : c.code = cc) {own : String} {index : Nat} (hown : s.vm.findClass own = some m.cls)
    (hclink : (Cond.classLink own index ("[" ++ (FieldType.array .int).toString)).before args s = true) (hover : (Cond.arrayOver (.array .int)).before args s = true) (harr : (Cond.arrayClass .int).before args s = true)
    {g : JFrame} (hg : g.method = m) (hdg : decode cc g.pc = .ok (.multianewarray index 2, 4)) {n k : Int32} {rest : List Value} (hstack : g.stack = .int k :: .int n :: rest) (hn : ¬ n < 0) (hk : ¬ k < 0) {N K : Nat} (eN : n.toNatClampNeg = N) (eK : k.toNatClampNeg = K) (hN : N ≤ 1000) (hK : K ≤ 1000)
    (hcells : cells + (1 + N) ≤ R.cells) (hslots : slots + (N + N * K) ≤ R.slots)
    (kk : ∀ (cA comp : ClassId) (H' : Heap), s.vm.findClass ("[" ++ (FieldType.array .int).toString) = some cA → s.vm.findClass (FieldType.array .int).toString = some comp → H'.size = H.size + 1 + N → H'[H.size]? = some (arrV cA N (fun j => .ref (H.size + 1 + j))) →
      (∀ a : Nat, a < H.size → H'[a]? = H[a]?) → (∀ j, j < N → H'[H.size + 1 + j]? = some (arrV comp K (fun _ => .int 0))) → nsl s.heap.size H' ≤ slots + N + N * K →
      W p l e R s m args below meth c H' locs (cells + 1 + N) (slots + N + N * K) Q { g with pc := g.pc + 4, stack := .ref H.size :: rest }) : W p l e R s m args below meth c H locs cells slots Q g := by
  intro T hT X
  subst hT; subst hb; subst eN; subst eK
  obtain ⟨vm₁, cA, comp, hW, hfA, hfC, -, -, X1, st⟩ := X.multianewarray2F hexec hown hclink hover harr hg hdg hstack hn hk (by omega) (by show _ * 4 ≤ _; omega) (by omega) rfl rfl hcells hslots
  obtain ⟨f1, f2, f3, f4⟩ := Jvm.Free.Multi.fill_facts (T.setVm vm₁) cA comp n.toNatClampNeg k.toNatClampNeg (defaultValue .int) n.toNatClampNeg
  have fo := fun (a : Addr) (ha : a < T.heap.size) => Jvm.Free.Multi.fill_old (T.setVm vm₁) cA comp n.toNatClampNeg k.toNatClampNeg (defaultValue .int) (a := a) ha n.toNatClampNeg
  have fi := fun (j : Nat) (hj : j < n.toNatClampNeg) => Jvm.Free.Multi.fill_inner (T.setVm vm₁) cA comp n.toNatClampNeg k.toNatClampNeg (defaultValue .int) n.toNatClampNeg j hj
  have hsl : nsl s.heap.size (Jvm.Free.Multi.fill (T.setVm vm₁) cA comp n.toNatClampNeg k.toNatClampNeg (defaultValue .int) n.toNatClampNeg).heap ≤ slots + n.toNatClampNeg + n.toNatClampNeg * k.toNatClampNeg := by
    have h5 := X1.same.2.2.2.2.1
    unfold nsl
    rw [← List.map_drop]
    exact h5
  obtain ⟨t, a1, b1⟩ := kk cA comp _ hfA hfC f1 (f2.trans (congrArg some (oc_arrV _ _ _))) fo (fun j hj => (fi j hj).trans (congrArg some (arrV_new _ _ _))) hsl _ rfl X1
  exact ⟨t, st t a1, b1⟩
theorem zAO_use {U : State} {args : Array Value} (h : zAO U) : (Cond.arrayOver (.array .int)).before args U = true := h
theorem multi_ok {D : va_G} {b0 : Nat} {H0 H H' : Heap} {R : Room} {locs : List Loc} {μ : Me} {n k : Int} {q : Nat × Me} (hb : b0 ≤ H0.size) (hR : RP D b0 μ H) (hS : SS b0 H0 R μ H locs) (h : nM μ n k = some q)
    (s1 : H'.size = H.size + 1 + (w32 n).toNat) (s2 : H'[H.size]? = some (arrV (D.1 105) (w32 n).toNat (fun j => .ref (H.size + 1 + j)))) (s3 : ∀ a : Nat, a < H.size → H'[a]? = H[a]?) (s4 : ∀ j, j < (w32 n).toNat → H'[H.size + 1 + j]? = some (arrV (D.1 101) (w32 k).toNat (fun _ => .int 0)))
    (s5 : nsl H0.size H' ≤ nsl H0.size H + (w32 n).toNat + (w32 n).toNat * (w32 k).toNat) :
    q.1 = H.size ∧ RP D b0 q.2 H' ∧ SS b0 H0 R q.2 H' locs := by
  obtain ⟨⟨⟨h1, h2, h3, h4⟩, h5, h6⟩, e⟩ := ib_ h
  obtain ⟨t1, t2, t3, t4⟩ := hS
  have hz := t1.1
  subst e
  have hnx : H.size = μ.1.1.1 := hR.1
  have hk31 : w32 k < 2147483648 := by omega
  refine ⟨hnx.symm, ⟨by rw [s1, hnx], fun a => ?_, fun a h9 => ?_⟩, ⟨⟨by omega, fun q g1 g2 => ?_, t1.2.2⟩, fun q g => ?_, ?_, ?_⟩⟩
  · by_cases e : a = H.size
    · subst e
      refine ⟨fun c' r' hc' ht => ?_, fun t l1 l2 ht => ?_⟩
      · have := zCl_lt hc'
        rw [hnx] at ht
        simp at ht
        omega
      · rw [hnx] at ht
        simp at ht
        subst ht
        rw [hnx]
        simp only [if_pos]
        rw [← hnx]
        refine ⟨s2.trans ?_, h1, by omega⟩
        refine congrArg some (cell_ext rfl ?_ rfl rfl rfl)
        apply Array.ext_getElem?
        intro j
        by_cases hj : j < (w32 n).toNat
        · rw [arrV_read _ _ hj, arrV_read _ _ hj]
          unfold aV
          rw [if_neg (by decide), if_neg (by decide)]
          dsimp only
          rw [if_pos rfl, if_pos (by omega)]
          simp [va_rf]
        · rw [Array.getElem?_eq_none (by rw [arrV_size]; omega), Array.getElem?_eq_none (by rw [arrV_size]; omega)]
    · by_cases e2 : H.size < a ∧ a ≤ H.size + (w32 n).toNat
      · refine ⟨fun c' r' hc' ht => ?_, fun t l1 l2 ht => ?_⟩
        · have := zCl_lt hc'
          rw [hnx] at e e2
          simp [e, e2] at ht
          omega
        · rw [hnx] at e e2
          simp [e, e2] at ht
          subst ht
          simp only [if_neg e, if_pos e2]
          have e3 := s4 (a - (H.size + 1)) (by omega)
          rw [show H.size + 1 + (a - (H.size + 1)) = a by omega] at e3
          refine ⟨e3.trans ?_, h3, hk31⟩
          congr 2
          funext j
          unfold aV
          rw [if_neg (by decide), if_pos (by decide)]
          dsimp only
          rw [if_pos (by omega)]
          rfl
      · rw [hnx] at e e2
        by_cases e3 : a < H.size
        · refine (hR.2.1 a).congr (by simp [e, e2]) (by simp [e, e2]) (by simp [e, e2]) ?_ ?_ (s3 a e3)
          · exact if_neg (by omega)
          · exact if_neg (by omega)
        · refine (hR.2.1 a).congr (by simp [e, e2]) (by simp [e, e2]) (by simp [e, e2]) ?_ ?_ ?_
          · exact if_neg (by omega)
          · exact if_neg (by omega)
          · rw [Array.getElem?_eq_none (by omega), Array.getElem?_eq_none (by omega)]
  · by_cases e : a = μ.1.1.1
    · omega
    · by_cases e2 : μ.1.1.1 < a ∧ a ≤ μ.1.1.1 + (w32 n).toNat
      · omega
      · simp [e, e2] at h9
        exact hR.2.2 a h9
  · rw [s3 q (by omega)]
    exact t1.2.1 q g1 g2
  · rw [s3 q (by omega)]
    exact t2 q g
  · show _ + (μ.1.1.2.1 - _) ≤ _
    rw [s1]; omega
  · show _ + (μ.1.1.2.2 - _) ≤ _
    omega
theorem r_multi {Z : Zt} {Q : State → Prop} {μ : Me} {pc : Nat} {L : List (Nat × Value)} {st : List Value} {y : MethodName} {cc : ByteArray} {ret : Option FieldType} {lv nl : Nat} (C : CX Z y cc ret lv nl) {idx : Nat} {n k : Int} {q : Nat × Me} (h : nM μ n k = some q) (qk : Cond.classLink y.cls idx "[[I" ∈ lw_all) (qa : Cond.arrayClass .int ∈ lw_all) (d : decode cc pc = .ok (.multianewarray idx 2, 4))
    (kk : WL Z Q q.2 (pc + 4) L (vO q.1 :: st)) : WL Z Q μ pc L (vI k :: vI n :: st) := by
  intro H locs ls hR hS hl
  obtain ⟨⟨⟨h1, h2, h3, h4⟩, h5, h6⟩, -⟩ := ib_ h
  have hrm := hS.room
  have hnn : ¬ Int32.ofInt n < 0 := by rw [z_lt0]; omega
  have hkn : ¬ Int32.ofInt k < 0 := by rw [z_lt0]; omega
  refine W.multi C.ex C.by_ C.own (C.hts _ qk) (zAO_use C.kt.2.2.2.2.2.1) (C.hts _ qa) rfl d rfl hnn hkn (z_clamp n) (z_clamp k) (by omega) (by omega) (by omega) (by omega) fun cA comp H' g1 g2 g3 g4 g5 g6 g7 => ?_
  have f1 : Z.2.2.2.2.1.vm.findClass ("[" ++ (FieldType.array .int).toString) = some (Z.2.2.2.2.2.2.2.2.2.2.1.1 105) := (C.kt.1.2 4 _ rfl).2
  have f2 : Z.2.2.2.2.1.vm.findClass ("[" ++ FieldType.int.toString) = some (Z.2.2.2.2.2.2.2.2.2.2.1.1 101) := (C.kt.1.2 0 _ rfl).2
  have e0 : cA = Z.2.2.2.2.2.2.2.2.2.2.1.1 105 := Option.some.inj (g1.symm.trans f1)
  have e1 : comp = Z.2.2.2.2.2.2.2.2.2.2.1.1 101 := Option.some.inj (g2.symm.trans f2)
  subst e0 e1
  obtain ⟨u1, u2, u3⟩ := multi_ok C.b0 hR hS h g3 g4 g5 g6 g7
  rw [← u1]
  exact W.exact (kk _ _ ls u2 u3 hl)

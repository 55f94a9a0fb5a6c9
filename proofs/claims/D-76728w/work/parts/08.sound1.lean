/-! ===== SOUNDNESS of the abstract machine, 1: what is fixed, heaps, locals ===== -/
/-- what is fixed at the law's entry: the state, the classes' numbers and slots, the lambdas' classes, the array classes, the values of the addresses that were there -/
abbrev av_X : Type := State × va_G × (Nat → ClassId) × (Nat → ClassId) × (Nat → Option Nat)
def av_sg (cx : av_X) (a : Nat) : Value := if a < av_K then va_rf (cx.2.2.2.2 a) else .ref (cx.1.heap.size + (a - av_K))
def av_cv (cx : av_X) (v : Value) : Value := match v with
  | .ref a => av_sg cx a
  | v => v
theorem av_sg_new {cx : av_X} {a : Nat} (h : av_K ≤ a) : av_sg cx a = .ref (cx.1.heap.size + (a - av_K)) := by
  unfold av_sg
  rw [if_neg (by omega)]
theorem av_cat (cx : av_X) (v : Value) : (av_cv cx v).category = v.category := by
  unfold av_cv
  cases v with
  | ref a =>
    dsimp only
    unfold av_sg
    split
    · cases cx.2.2.2.2 a <;> rfl
    · rfl
  | _ => rfl
/-- a cell of the abstract heap, as it lies at q -/
def av_cell (cx : av_X) (a : Nat) (c : av_C) (q : Addr) (H : Heap) : Prop := ∃ cell : Cell, H[q]? = some cell ∧ cell.vm.isStatics = false ∧ cell.vm ≠ .unknown ∧ (av_K ≤ a → cell.vm = .none) ∧ match c with
  | .inl (k, f) => (k < 100 → k < av_nK ∧ cell.cls = cx.2.1.1 k ∧ ∀ i, i < av_nf k → cell.slots[cx.2.1.2 k i]? = some (av_cv cx (f i))) ∧
      (100 ≤ k → k - 100 < av_nJ ∧ cell.vm = .none ∧ cell.cls = cx.2.2.1 (k - 100) ∧ ∀ i, i < (av_lt (k - 100)).length → cell.slots[i]? = some (av_cv cx (f i)))
  | .inr (t, n, f) => cx.1.isArrayOf cell (av_ty t) ∧ cell.slots.size = n ∧ n < 2 ^ 31 ∧ (∀ i, i < n → cell.slots[i]? = some (av_cv cx (f i))) ∧ (av_K ≤ a → cell.cls = cx.2.2.2.1 t)
/-- the abstract heap A describes H -/
def av_rel (cx : av_X) (A : av_H) (H : Heap) : Prop := av_K ≤ A.1 ∧ H.size = cx.1.heap.size + (A.1 - av_K) ∧ (∀ q : Nat, q < cx.1.heap.size → H[q]? = cx.1.heap[q]?) ∧
  ∀ a c, A.2.2 a = some c → a < A.1 ∧ ∃ q, av_sg cx a = .ref q ∧ (a < av_K → q < cx.1.heap.size) ∧ av_cell cx a c q H
theorem av_rel.at {cx : av_X} {A : av_H} {H : Heap} (h : av_rel cx A H) {a : Nat} {c : av_C} (ha : A.2.2 a = some c) : ∃ q, av_sg cx a = .ref q ∧ av_cell cx a c q H := by
  obtain ⟨-, q, h1, -, h2⟩ := h.2.2.2 a c ha
  exact ⟨q, h1, h2⟩
/-- the addresses: of two cells one of which is new: the same only if they are one -/
theorem av_sg_inj {cx : av_X} {A : av_H} {H : Heap} (h : av_rel cx A H) {a b : Nat} {c c' : av_C} {q q' : Nat} (ha : A.2.2 a = some c) (hb : A.2.2 b = some c') (hK : av_K ≤ a ∨ av_K ≤ b) (h1 : av_sg cx a = .ref q) (h2 : av_sg cx b = .ref q') (hq : q = q') : a = b := by
  obtain ⟨-, q1, e1, l1, -⟩ := h.2.2.2 a c ha
  obtain ⟨-, q2, e2, l2, -⟩ := h.2.2.2 b c' hb
  have f1 : q1 = q := Value.ref.inj (e1.symm.trans h1)
  have f2 : q2 = q' := Value.ref.inj (e2.symm.trans h2)
  by_cases hA : av_K ≤ a
  · have g1 : cx.1.heap.size + (a - av_K) = q := Value.ref.inj ((av_sg_new hA).symm.trans h1)
    by_cases hB : av_K ≤ b
    · have g2 : cx.1.heap.size + (b - av_K) = q' := Value.ref.inj ((av_sg_new hB).symm.trans h2)
      omega
    · have l3 : q2 < cx.1.heap.size := l2 (by omega)
      rw [f2, ← hq, ← g1] at l3
      exact absurd l3 (Nat.not_lt.mpr (Nat.le_add_right _ _))
  · have hB : av_K ≤ b := by omega
    have g2 : cx.1.heap.size + (b - av_K) = q' := Value.ref.inj ((av_sg_new hB).symm.trans h2)
    have l3 : q1 < cx.1.heap.size := l1 (by omega)
    rw [f1, hq, ← g2] at l3
    exact absurd l3 (Nat.not_lt.mpr (Nat.le_add_right _ _))
/-- a cell is written -/
theorem av_rel.set {cx : av_X} {A : av_H} {H H' : Heap} (h : av_rel cx A H) {a : Nat} {c c' : av_C} {q : Nat} (ha : A.2.2 a = some c) (hK : av_K ≤ a) (hq : av_sg cx a = .ref q) (hs : H'.size = H.size) (ho : ∀ z, z ≠ q → H'[z]? = H[z]?) (hc : av_cell cx a c' q H') : av_rel cx (av_set A a c') H' := by
  obtain ⟨hA, hS, hB, hC⟩ := h
  have hqn : q = cx.1.heap.size + (a - av_K) := by rw [av_sg_new hK] at hq; cases hq; rfl
  refine ⟨hA, hs.trans hS, fun z hz => by rw [ho z (by omega)]; exact hB z hz, fun b cb hb => ?_⟩
  simp only [av_set] at hb ⊢
  by_cases e : b = a
  · rw [if_pos e] at hb
    cases hb
    subst e
    exact ⟨(hC b c ha).1, q, hq, fun hl => by omega, hc⟩
  · rw [if_neg e] at hb
    obtain ⟨h1, q', h2, h3, h4⟩ := hC b cb hb
    refine ⟨h1, q', h2, h3, ?_⟩
    have hne : q' ≠ q := fun hqq => e (av_sg_inj ⟨hA, hS, hB, hC⟩ hb ha (Or.inr hK) h2 hq hqq)
    obtain ⟨cell, g1, g2⟩ := h4
    exact ⟨cell, by rw [ho q' hne]; exact g1, g2⟩
/-- a cell is made -/
theorem av_rel.new {cx : av_X} {A : av_H} {H H' : Heap} (h : av_rel cx A H) {n : Nat} {c : av_C} (hs : H'.size = H.size + 1) (ho : ∀ z, z < H.size → H'[z]? = H[z]?) (hc : av_cell cx A.1 c H.size H') : av_rel cx (av_new A n c) H' := by
  obtain ⟨hA, hS, hB, hC⟩ := h
  have hnew : av_sg cx A.1 = .ref H.size := by rw [av_sg_new hA, hS]
  refine ⟨Nat.le_succ_of_le hA, ?_, fun z hz => by rw [ho z (by omega)]; exact hB z hz, fun b cb hb => ?_⟩
  · show H'.size = cx.1.heap.size + (A.1 + 1 - av_K)
    rw [hs, hS]; omega
  · simp only [av_new] at hb ⊢
    by_cases e : b = A.1
    · rw [if_pos e] at hb
      cases hb
      subst e
      exact ⟨Nat.lt_succ_self _, H.size, hnew, fun hl => by omega, hc⟩
    · rw [if_neg e] at hb
      obtain ⟨h1, q', h2, h3, h4⟩ := hC b cb hb
      refine ⟨Nat.lt_succ_of_lt h1, q', h2, h3, ?_⟩
      obtain ⟨cell, g1, g2⟩ := h4
      exact ⟨cell, by rw [ho q' (Array.getElem?_eq_some_iff.mp g1).1]; exact g1, g2⟩
/-- the locals -/
def av_lrel (cx : av_X) (ls : Array Slot) (nL : Nat) (L : av_L) : Prop := ls.size = nL ∧ lv_wf ls ∧ ∀ i v, av_lget L i = some v → ls[i]? = some (.val (av_cv cx v))
theorem av_lrel.has {cx : av_X} {ls : Array Slot} {nL : Nat} {L : av_L} (h : av_lrel cx ls nL L) : lv_has ls nL ((List.range nL).filterMap fun i => (av_lget L i).map fun v => (i, av_cv cx v)) := by
  refine ⟨h.1, h.2.1, fun q hq => ?_⟩
  obtain ⟨i, -, hi⟩ := List.mem_filterMap.mp hq
  obtain ⟨v, hv, rfl⟩ := Option.map_eq_some_iff.mp hi
  exact h.2.2 i v hv
theorem av_lget_up (L : av_L) (i j : Nat) (v : Value) : av_lget (av_lup L i v) j = if i = j then some v else av_lget L j := by
  induction L with
  | nil => simp [av_lup, av_lget]
  | cons q t ih =>
    obtain ⟨k, w⟩ := q
    simp only [av_lup]
    by_cases hk : k = i
    · subst hk
      simp only [if_true, av_lget]
      by_cases hj : k = j
      · simp [hj]
      · simp [hj]
    · simp only [if_neg hk, av_lget, ih]
      by_cases hj : k = j
      · subst hj
        simp [Ne.symm hk]
      · simp [hj]
theorem av_lget_del (L : av_L) (k j : Nat) : av_lget (L.filter fun q => !(q.1 == k)) j = if j = k then none else av_lget L j := by
  induction L with
  | nil => simp [av_lget]
  | cons q t ih =>
    obtain ⟨a, w⟩ := q
    by_cases ha : a = k
    · subst ha
      simp only [List.filter_cons, beq_self_eq_true, Bool.not_true, Bool.false_eq_true, if_false, ih, av_lget]
      by_cases hj : j = a
      · simp [hj]
      · simp [hj, Ne.symm hj]
    · simp only [List.filter_cons, beq_eq_false_iff_ne.mpr ha, Bool.not_false, if_true, av_lget, ih]
      by_cases hj : a = j
      · subst hj
        simp [ha]
      · simp [hj]
theorem av_lget_kill (L : av_L) (k j : Nat) : av_lget (av_kill L k) j = match av_lget L k with
    | some v => if v.category = 2 ∧ j = k then none else av_lget L j
    | none => av_lget L j := by
  unfold av_kill
  cases av_lget L k with
  | none => rfl
  | some v =>
    dsimp only
    by_cases hc : v.category = 2
    · rw [if_pos hc, av_lget_del]
      by_cases hj : j = k
      · simp [hj, hc]
      · simp [hj]
    · simp [hc]
/-- behind a store of one slot -/
theorem av_lrel.set1 {cx : av_X} {ls ls' : Array Slot} {nL : Nat} {L : av_L} {i : Nat} {v : Value} (h : av_lrel cx ls nL L)
    (h' : lv_has ls' nL ((i, av_cv cx v) :: ((List.range nL).filterMap fun i => (av_lget L i).map fun v => (i, av_cv cx v)).filter (fun q => !(q.1 == i) && !(q.1 + 1 == i && q.2.category == 2)))) : av_lrel cx ls' nL (av_lset1 L i v) := by
  refine ⟨h'.1, h'.2.1, fun j w hw => ?_⟩
  unfold av_lset1 at hw
  rw [av_lget_up] at hw
  by_cases hij : i = j
  · rw [if_pos hij] at hw
    cases hw
    subst hij
    exact h'.2.2 (i, av_cv cx v) List.mem_cons_self
  · rw [if_neg hij] at hw
    have h1 : av_lget L j = some w ∧ ¬ (j + 1 = i ∧ w.category = 2) := by
      cases i with
      | zero => exact ⟨hw, fun q => by omega⟩
      | succ k =>
        dsimp only at hw
        rw [av_lget_kill] at hw
        cases hk : av_lget L k with
        | none =>
          rw [hk] at hw
          refine ⟨hw, fun q => ?_⟩
          have : j = k := by omega
          subst this
          rw [hk] at hw; cases hw
        | some u =>
          rw [hk] at hw
          dsimp only at hw
          by_cases hj : u.category = 2 ∧ j = k
          · rw [if_pos hj] at hw; cases hw
          · rw [if_neg hj] at hw
            refine ⟨hw, fun q => ?_⟩
            have e : j = k := by omega
            subst e
            rw [hk] at hw
            cases hw
            exact hj ⟨q.2, rfl⟩
    have hlt : j < nL := by
      have := (Array.getElem?_eq_some_iff.mp (h.2.2 j w h1.1)).1
      rw [h.1] at this
      exact this
    have hcat : (av_cv cx w).category = w.category := av_cat cx w
    refine h'.2.2 (j, av_cv cx w) (List.mem_cons_of_mem _ (List.mem_filter.mpr ⟨List.mem_filterMap.mpr ⟨j, List.mem_range.mpr hlt, by rw [h1.1]; rfl⟩, ?_⟩))
    dsimp only
    rw [hcat]
    have e1 : (j == i) = false := beq_eq_false_iff_ne.mpr (Ne.symm hij)
    rw [e1]
    by_cases e2 : j + 1 = i
    · have e3 : ¬ w.category = 2 := fun q => h1.2 ⟨e2, q⟩
      simp [e3]
    · simp [e2]
/-- behind a store of two slots -/
theorem av_lrel.set2 {cx : av_X} {ls ls' : Array Slot} {nL : Nat} {L : av_L} {i : Nat} {v : Value} (h : av_lrel cx ls nL L)
    (h' : lv_has ls' nL ((i, av_cv cx v) :: ((List.range nL).filterMap fun i => (av_lget L i).map fun v => (i, av_cv cx v)).filter (fun q => !(q.1 == i) && (!(q.1 == i + 1) && !(q.1 + 1 == i && q.2.category == 2))))) : av_lrel cx ls' nL (av_lset2 L i v) := by
  refine ⟨h'.1, h'.2.1, fun j w hw => ?_⟩
  unfold av_lset2 at hw
  rw [av_lget_up] at hw
  by_cases hij : i = j
  · rw [if_pos hij] at hw
    cases hw
    subst hij
    exact h'.2.2 (i, av_cv cx v) List.mem_cons_self
  · rw [if_neg hij, av_lget_del] at hw
    by_cases hij2 : j = i + 1
    · rw [if_pos hij2] at hw; cases hw
    rw [if_neg hij2] at hw
    have h1 : av_lget L j = some w ∧ ¬ (j + 1 = i ∧ w.category = 2) := by
      cases i with
      | zero => exact ⟨hw, fun q => by omega⟩
      | succ k =>
        dsimp only at hw
        rw [av_lget_kill] at hw
        cases hk : av_lget L k with
        | none =>
          rw [hk] at hw
          refine ⟨hw, fun q => ?_⟩
          have : j = k := by omega
          subst this
          rw [hk] at hw; cases hw
        | some u =>
          rw [hk] at hw
          dsimp only at hw
          by_cases hj : u.category = 2 ∧ j = k
          · rw [if_pos hj] at hw; cases hw
          · rw [if_neg hj] at hw
            refine ⟨hw, fun q => ?_⟩
            have e : j = k := by omega
            subst e
            rw [hk] at hw
            cases hw
            exact hj ⟨q.2, rfl⟩
    have hlt : j < nL := by
      have := (Array.getElem?_eq_some_iff.mp (h.2.2 j w h1.1)).1
      rw [h.1] at this
      exact this
    have hcat : (av_cv cx w).category = w.category := av_cat cx w
    refine h'.2.2 (j, av_cv cx w) (List.mem_cons_of_mem _ (List.mem_filter.mpr ⟨List.mem_filterMap.mpr ⟨j, List.mem_range.mpr hlt, by rw [h1.1]; rfl⟩, ?_⟩))
    dsimp only
    rw [hcat]
    have e1 : (j == i) = false := beq_eq_false_iff_ne.mpr (Ne.symm hij)
    have e4 : (j == i + 1) = false := beq_eq_false_iff_ne.mpr hij2
    rw [e1, e4]
    by_cases e2 : j + 1 = i
    · have e3 : ¬ w.category = 2 := fun q => h1.2 ⟨e2, q⟩
      simp [e3]
    · simp [e2]
/-- at a method's entry -/
theorem av_lget_ent (cx : av_X) : ∀ (vs : List Value) (i j : Nat) (w : Value), av_lget (av_ent i vs) j = some w → (j, av_cv cx w) ∈ lv_args i (vs.map (av_cv cx)) := by
  intro vs
  induction vs with
  | nil => intro i j w h; simp [av_ent, av_lget] at h
  | cons v t ih =>
    intro i j w h
    simp only [av_ent, av_lget] at h
    simp only [List.map_cons, lv_args]
    by_cases hij : i = j
    · rw [if_pos hij] at h
      cases h
      subst hij
      exact List.mem_cons_self
    · rw [if_neg hij] at h
      rw [av_cat]
      exact List.mem_cons_of_mem _ (ih _ _ _ h)

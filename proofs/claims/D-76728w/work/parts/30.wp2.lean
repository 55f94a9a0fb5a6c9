/-! ===== what a run of the abstract machine comes to, 2: as an equation; fewer locals ===== -/
theorem av_G_iff {d y pc : Nat} {L : av_L} {S : List Value} {A : av_H} {Q : av_R → av_H → Prop} {i : Instr} (hf : av_fetch y pc = some i) : av_G d y pc L S A Q = av_P d y pc L S A Q i := by
  refine propext ⟨fun h => ?_, av_G_of hf⟩
  obtain ⟨N, o, A', h1, h2⟩ := h
  cases N with
  | zero => exact absurd h1 (by simp [av_exec])
  | succ n =>
    rw [av_exec_succ, hf] at h1
    dsimp only at h1
    unfold av_P
    revert h2
    revert h1
    have hgo : ∀ pc L S A o A', av_exec (fun z as A => av_run (n + 1) d z as A) y n pc L S A = some (o, A') → Q o A' → av_G d y pc L S A Q := fun pc L S A o A' h hq => ⟨n + 1, o, A', av_exec_mono (fun _ _ _ _ h => h) y n (n + 1) (Nat.le_succ _) _ _ _ _ _ h, hq⟩
    have hT : ∀ q A o A', (match av_hnd y pc with | some h => (if av_isF A q = true then av_exec (fun z as A => av_run (n + 1) d z as A) y n h L [.ref q] A else none) | none => some (.inr q, A)) = some (o, A') → Q o A' → av_T d y pc L q A Q := by
      intro q A o A' h hq
      unfold av_T
      cases hh : av_hnd y pc with
      | none =>
        rw [hh] at h
        cases h
        exact hq
      | some hp =>
        rw [hh] at h
        dsimp only at h ⊢
        split at h
        · next hF => exact ⟨hF, hgo _ _ _ _ _ _ h hq⟩
        · cases h
    refine av_step_rel (bad := none) (bad' := False) (go := fun pc L S A => av_exec (fun z as A => av_run (n + 1) d z as A) y n pc L S A) (go' := fun pc L S A => av_G d y pc L S A Q) (ret := fun v A => some (.inl v, A)) (ret' := fun v A => Q (.inl v) A) (thr := fun q A => match av_hnd y pc with | some h => (if av_isF A q = true then av_exec (fun z as A => av_run (n + 1) d z as A) y n h L [.ref q] A else none) | none => some (.inr q, A)) (thr' := fun q A => av_T d y pc L q A Q)
      (call := fun z as A k => match av_run (n + 1) d z as A with | some (.inl v, A) => k v A | some (.inr q, A) => (match av_hnd y pc with | some h => (if av_isF A q = true then av_exec (fun z as A => av_run (n + 1) d z as A) y n h L [.ref q] A else none) | none => some (.inr q, A)) | none => none) (call' := fun z as A k => av_W d z as A (fun o A' => match o with | .inl v => k v A' | .inr q => av_T d y pc L q A' Q)) (fun (a : Option (av_R × av_H)) (b : Prop) => a = some (o, A') → Q o A' → b) (fun h _ => by cases h) (fun pc L S A h hq => hgo _ _ _ _ _ _ h hq) (fun v A h hq => by cases h; exact hq) (fun q A h hq => hT q A o A' h hq) (fun z as A k k' hk h hq => ?_) y pc L S A i
    cases hz : av_run (n + 1) d z as A with
    | none => rw [hz] at h; cases h
    | some x =>
      obtain ⟨o1, A1⟩ := x
      rw [hz] at h
      refine ⟨n + 1, o1, A1, hz, ?_⟩
      cases o1 with
      | inl v => exact hk v A1 h hq
      | inr q => exact hT q A1 o A' h hq
/-- what is known of L is known of L' -/
def av_sub (L L' : av_L) : Prop := ∀ i v, av_lget L i = some v → av_lget L' i = some v
theorem av_getup (L : av_L) (i : Nat) (v : Value) (j : Nat) : av_lget (av_lup L i v) j = if i = j then some v else av_lget L j := by
  induction L with
  | nil => simp [av_lup, av_lget]
  | cons a t ih =>
    obtain ⟨k, w⟩ := a
    simp only [av_lup]
    by_cases e : k = i
    · subst e
      rw [if_pos rfl]
      simp only [av_lget]
      by_cases e2 : k = j
      · rw [if_pos e2]; simp [e2]
      · rw [if_neg e2, if_neg e2]; simp [e2]
    · rw [if_neg e]
      simp only [av_lget]
      by_cases e2 : k = j
      · subst e2
        rw [if_pos rfl, if_neg (fun h => e h.symm), if_pos rfl]
      · rw [if_neg e2, ih]
        by_cases e3 : i = j
        · rw [if_pos e3, if_pos e3]
        · rw [if_neg e3, if_neg e3, if_neg e2]
theorem av_lget_drop (L : av_L) (i j : Nat) : av_lget (L.filter (fun q => !(q.1 == i))) j = if i = j then none else av_lget L j := by
  induction L with
  | nil => simp [av_lget]
  | cons a t ih =>
    obtain ⟨k, w⟩ := a
    by_cases e : k = i
    · subst e
      rw [List.filter_cons_of_neg (by simp), ih]
      simp only [av_lget]
      by_cases e2 : k = j
      · rw [if_pos e2, if_pos e2]
      · rw [if_neg e2, if_neg e2, if_neg e2]
    · rw [List.filter_cons_of_pos (by simp [e])]
      simp only [av_lget]
      by_cases e2 : k = j
      · subst e2
        rw [if_pos rfl, if_neg (fun h => e h.symm), if_pos rfl]
      · rw [if_neg e2, if_neg e2, ih]
theorem av_sub_kill {L L' : av_L} (h : av_sub L L') (j i : Nat) (v : Value) (hi : i ≠ j) (hv : av_lget (av_kill L j) i = some v) : av_lget (av_kill L' j) i = some v := by
  have h1 : av_lget L i = some v := by
    unfold av_kill at hv
    split at hv
    · split at hv
      · rw [av_lget_drop, if_neg (Ne.symm hi)] at hv; exact hv
      · exact hv
    · exact hv
  have h2 := h i v h1
  unfold av_kill
  split
  · split
    · rw [av_lget_drop, if_neg (Ne.symm hi)]; exact h2
    · exact h2
  · exact h2
theorem av_sub_kill2 {L L' : av_L} (h : av_sub L L') (j : Nat) : av_sub (av_kill L j) (av_kill L' j) := by
  intro i v hv
  by_cases hi : i = j
  · subst hi
    have hL : av_lget L i = some v ∧ ¬ v.category = 2 := by
      unfold av_kill at hv
      cases hw : av_lget L i with
      | none => rw [hw] at hv; dsimp only at hv; rw [hw] at hv; cases hv
      | some w =>
        rw [hw] at hv
        dsimp only at hv
        split at hv
        · rw [av_lget_drop, if_pos rfl] at hv; cases hv
        · next hc =>
          rw [hw] at hv
          cases hv
          exact ⟨rfl, hc⟩
    have h2 := h i v hL.1
    unfold av_kill
    rw [h2]
    dsimp only
    rw [if_neg hL.2]
    exact h2
  · exact av_sub_kill h j i v hi hv
theorem av_sub_set1 {L L' : av_L} (h : av_sub L L') (i : Nat) (v : Value) : av_sub (av_lset1 L i v) (av_lset1 L' i v) := by
  intro j w hw
  unfold av_lset1 at hw ⊢
  rw [av_getup] at hw ⊢
  by_cases e : i = j
  · rw [if_pos e] at hw ⊢; exact hw
  · rw [if_neg e] at hw ⊢
    cases i with
    | zero => exact h j w hw
    | succ i => exact av_sub_kill2 h i j w hw
theorem av_sub_set2 {L L' : av_L} (h : av_sub L L') (i : Nat) (v : Value) : av_sub (av_lset2 L i v) (av_lset2 L' i v) := by
  intro j w hw
  unfold av_lset2 at hw ⊢
  rw [av_getup] at hw ⊢
  by_cases e : i = j
  · rw [if_pos e] at hw ⊢; exact hw
  · rw [if_neg e] at hw ⊢
    rw [av_lget_drop] at hw ⊢
    by_cases e2 : i + 1 = j
    · rw [if_pos e2] at hw; cases hw
    · rw [if_neg e2] at hw ⊢
      cases i with
      | zero => exact h j w hw
      | succ i => exact av_sub_kill2 h i j w hw
/-- one instruction, with fewer locals known -/
theorem av_step_sub {α β : Type} (ρ : α → β → Prop) {bad : α} {bad' : β} {go : Nat → av_L → List Value → av_H → α} {go' : Nat → av_L → List Value → av_H → β} {ret : Option Value → av_H → α} {ret' : Option Value → av_H → β} {thr : Nat → av_H → α} {thr' : Nat → av_H → β}
    {call : Nat → List Value → av_H → (Option Value → av_H → α) → α} {call' : Nat → List Value → av_H → (Option Value → av_H → β) → β} {L L' : av_L} (hL : av_sub L L')
    (hb : ∀ b, ρ bad b) (hgo : ∀ pc M M' S A, av_sub M M' → ρ (go pc M S A) (go' pc M' S A)) (hret : ∀ v A, ρ (ret v A) (ret' v A)) (hthr : ∀ q A, ρ (thr q A) (thr' q A)) (hcall : ∀ z as A k k', (∀ v A, ρ (k v A) (k' v A)) → ρ (call z as A k) (call' z as A k'))
    (y pc : Nat) (S : List Value) (A : av_H) (ins : Instr) : ρ (av_step bad go ret thr call y pc L S A ins) (av_step bad' go' ret' thr' call' y pc L' S A ins) := by
  unfold av_step
  cases ins with
  | iload k | lload k | aload k =>
    dsimp only
    cases hv : av_lget L k with
    | none => exact hb _
    | some v => rw [hL _ _ hv]; cases v <;> first | exact hb _ | exact hgo _ _ _ _ _ hL
  | iload_n k | lload_n k | aload_n k =>
    dsimp only
    cases hv : av_lget L (k : Nat) with
    | none => exact hb _
    | some v => rw [hL _ _ hv]; cases v <;> first | exact hb _ | exact hgo _ _ _ _ _ hL
  | iinc k n =>
    dsimp only
    cases hv : av_lget L k with
    | none => exact hb _
    | some v => rw [hL _ _ hv]; cases v <;> first | exact hb _ | exact hgo _ _ _ _ _ (av_sub_set1 hL _ _)
  | multianewarray ix dm =>
    match dm with
    | 0 => exact hb _
    | 1 => exact hb _
    | 2 =>
      change ρ (match S with
        | .int k :: .int n :: S => (match av_lnX (av_own y) ix with
          | some (t, u) => if 0 < n ∧ n ≤ 100 ∧ 0 ≤ k ∧ k ≤ 100 then go (pc + 4) L (.ref A.1 :: S)
              (A.1 + 1 + n.toNatClampNeg, A.2.1 + (n.toNatClampNeg + n.toNatClampNeg * k.toNatClampNeg), fun b => if b < A.1 then A.2.2 b else if b = A.1 then some (.inr (t, n.toNatClampNeg, fun j => .ref (A.1 + 1 + j)))
                else if b < A.1 + 1 + n.toNatClampNeg then some (.inr (u, k.toNatClampNeg, fun _ => .null)) else none) else bad
          | none => bad)
        | _ => bad) (match S with
        | .int k :: .int n :: S => (match av_lnX (av_own y) ix with
          | some (t, u) => if 0 < n ∧ n ≤ 100 ∧ 0 ≤ k ∧ k ≤ 100 then go' (pc + 4) L' (.ref A.1 :: S)
              (A.1 + 1 + n.toNatClampNeg, A.2.1 + (n.toNatClampNeg + n.toNatClampNeg * k.toNatClampNeg), fun b => if b < A.1 then A.2.2 b else if b = A.1 then some (.inr (t, n.toNatClampNeg, fun j => .ref (A.1 + 1 + j)))
                else if b < A.1 + 1 + n.toNatClampNeg then some (.inr (u, k.toNatClampNeg, fun _ => .null)) else none) else bad'
          | none => bad')
        | _ => bad')
      repeat' first
        | exact hb _
        | exact hgo _ _ _ _ _ hL
        | split
    | k + 3 => exact hb _
  | _ =>
    simp only [av_jmp]
    repeat' first
      | exact hb _
      | exact hgo _ _ _ _ _ hL
      | exact hgo _ _ _ _ _ (av_sub_set1 hL _ _)
      | exact hgo _ _ _ _ _ (av_sub_set2 hL _ _)
      | exact hret _ _
      | exact hthr _ _
      | (refine hcall _ _ _ _ _ fun v A => ?_)
      | split
theorem av_exec_sub {R : Nat → List Value → av_H → Option (av_R × av_H)} (y : Nat) : ∀ n pc L L' S A r, av_sub L L' → av_exec R y n pc L S A = some r → av_exec R y n pc L' S A = some r := by
  intro n
  induction n with
  | zero => intro pc L L' S A r _ h; exact absurd h (by simp [av_exec])
  | succ n ih =>
    intro pc L L' S A r hL h
    rw [av_exec_succ] at h ⊢
    cases hf : av_fetch y pc with
    | none => rw [hf] at h; cases h
    | some i =>
      rw [hf] at h
      dsimp only at h ⊢
      revert h
      have hT : ∀ q A, (match av_hnd y pc with | some h => (if av_isF A q = true then av_exec R y n h L [.ref q] A else none) | none => some (.inr q, A)) = some r → (match av_hnd y pc with | some h => (if av_isF A q = true then av_exec R y n h L' [.ref q] A else none) | none => some (.inr q, A)) = some r := by
        intro q A
        cases av_hnd y pc with
        | none => exact fun h => h
        | some hh =>
          dsimp only
          split
          · exact fun h => ih _ _ _ _ _ _ hL h
          · exact fun h => h
      refine av_step_sub (bad := none) (bad' := none) (go := fun pc L S A => av_exec R y n pc L S A) (go' := fun pc L S A => av_exec R y n pc L S A) (fun (a b : Option (av_R × av_H)) => a = some r → b = some r) hL (fun b h => by cases h) (fun pc M M' S A hM h => ih _ _ _ _ _ _ hM h) (fun v A h => h) (fun q A h => hT q A h) (fun z as A k k' hk => ?_) y pc S A i
      cases R z as A with
      | none => exact fun h => h
      | some x =>
        obtain ⟨o, A1⟩ := x
        cases o with
        | inl v => exact fun h => hk v A1 h
        | inr q => exact fun h => hT q A1 h
theorem av_G.sub {d y pc : Nat} {L L' : av_L} {S : List Value} {A : av_H} {Q : av_R → av_H → Prop} (h : av_G d y pc L S A Q) (hL : av_sub L L') : av_G d y pc L' S A Q := by
  obtain ⟨N, o, A', h1, h2⟩ := h
  exact ⟨N, o, A', av_exec_sub y N _ _ _ _ _ _ hL h1, h2⟩
/-- the form that the rules are written in -/
def av_g (d y : Nat) (Q : av_R → av_H → Prop) (pc : Nat) (L : av_L) (S : List Value) (A : av_H) : Prop := av_G d y pc L S A Q
def av_p (d y : Nat) (Q : av_R → av_H → Prop) (pc : Nat) (L : av_L) (S : List Value) (A : av_H) (i : Instr) : Prop :=
  av_step False (av_g d y Q) (fun v A => Q (.inl v) A) (fun q A => av_T d y pc L q A Q) (fun z as A k => av_W d z as A (fun o A' => match o with | .inl v => k v A' | .inr q => av_T d y pc L q A' Q)) y pc L S A i
theorem av_g_iff {d y pc : Nat} {L : av_L} {S : List Value} {A : av_H} {Q : av_R → av_H → Prop} {i : Instr} (hf : av_fetch y pc = some i) : av_g d y Q pc L S A = av_p d y Q pc L S A i := av_G_iff hf
theorem av_g_sub {d y pc : Nat} {L L' : av_L} {S : List Value} {A : av_H} {Q : av_R → av_H → Prop} (h : av_g d y Q pc L S A) (hL : av_sub L L') : av_g d y Q pc L' S A := av_G.sub h hL
theorem av_g_mono {d d' y pc : Nat} {L : av_L} {S : List Value} {A : av_H} {Q Q' : av_R → av_H → Prop} (h : av_g d y Q pc L S A) (hd : d ≤ d') (hQ : ∀ o A', Q o A' → Q' o A') : av_g d' y Q' pc L S A := av_G.mono h hd hQ
theorem av_w_of {d z : Nat} {as : List Value} {A : av_H} {Q : av_R → av_H → Prop} (hz : z < 2000) (hw : av_wid as ≤ av_ml z) (h : av_g d z Q 0 (av_ent 0 as) [] A) : av_W (d + 1) z as A Q := av_W_of hz hw h
/-- no handler but in one method -/
theorem av_T_no {d y pc : Nat} {L : av_L} {q : Nat} {A : av_H} {Q : av_R → av_H → Prop} (hy : y ≠ 186) : av_T d y pc L q A Q = Q (.inr q) A := by
  unfold av_T av_hnd
  rw [if_neg hy]
/-! what the rules of single instructions stand on -/
theorem av_ifeq (a b : Int32) (X Y : Prop) : (if av_cond .eq a b = true then X else Y) = if a = b then X else Y := by
  by_cases h : a = b <;> simp [av_cond, h]
theorem av_ifne (a b : Int32) (X Y : Prop) : (if av_cond .ne a b = true then X else Y) = if a = b then Y else X := by
  by_cases h : a = b <;> simp [av_cond, h]
theorem av_iflt (a b : Int32) (X Y : Prop) : (if av_cond .lt a b = true then X else Y) = if a < b then X else Y := by
  by_cases h : a < b <;> simp [av_cond, h]
theorem av_ifge (a b : Int32) (X Y : Prop) : (if av_cond .ge a b = true then X else Y) = if a < b then Y else X := by
  by_cases h : a < b
  · rw [if_pos h, if_neg (by simp only [av_cond, decide_eq_true_eq]; exact Int32.not_le.mpr h)]
  · rw [if_neg h, if_pos (by simp only [av_cond, decide_eq_true_eq]; exact Int32.not_lt.mp h)]
theorem av_ifgt (a b : Int32) (X Y : Prop) : (if av_cond .gt a b = true then X else Y) = if b < a then X else Y := by
  by_cases h : b < a <;> simp [av_cond, h]
theorem av_ifle (a b : Int32) (X Y : Prop) : (if av_cond .le a b = true then X else Y) = if b < a then Y else X := by
  by_cases h : b < a
  · rw [if_pos h, if_neg (by simp only [av_cond, decide_eq_true_eq]; exact Int32.not_le.mpr h)]
  · rw [if_neg h, if_pos (by simp only [av_cond, decide_eq_true_eq]; exact Int32.not_lt.mp h)]
theorem av_tsd {a lo hi : Int32} {l h : Int} {X Y Z : Prop} (h1 : lo.toInt = l) (h2 : hi.toInt = h) (hn : ¬ (lo ≤ a ∧ a ≤ hi)) (hX : X = Z) : (if a.toInt < l ∨ h < a.toInt then X else Y) = Z := by
  rw [if_pos, hX]
  rw [Int32.le_iff_toInt_le, Int32.le_iff_toInt_le, h1, h2] at hn
  omega
theorem av_areq {r v : Nat} {A : av_H} {X : Prop} (h : r = 6) : (if r = 6 ∧ (A.2.2 v).isSome = true then X else False) = if (A.2.2 v).isSome = true then X else False := by
  by_cases hv : (A.2.2 v).isSome = true <;> simp [h, hv]
theorem av_off (l : List (Int × Int)) (dflt k : Int) (h : ∀ q ∈ l, ¬ q.1 = k) : Op.lookupswitch.offset l dflt k = dflt := by
  induction l with
  | nil => rfl
  | cons q t ih =>
    obtain ⟨a, o⟩ := q
    rw [Op.lookupswitch.offset_cons, if_neg (h (a, o) List.mem_cons_self)]
    exact ih fun q hq => h q (List.mem_cons_of_mem _ hq)
theorem av_ireq {r : Nat} {v : Int32} {X : Prop} (h : r = 1) : (if av_ok r (.int v) = true then X else False) = X := by
  subst h
  rfl
theorem av_rteq {r k : Nat} {X : Prop} (h : r = k) : (if r = k then X else False) = X := if_pos h
section LNS
variable {d y pc nx : Nat} {Q : av_R → av_H → Prop} {L : av_L} {S : List Value} {A : av_H}
theorem av_ifand {p q : Prop} [Decidable p] [Decidable q] {X Y : Prop} (h : q) : (if p ∧ q then X else Y) = if p then X else Y := by
  by_cases hp : p <;> simp [hp, h]
theorem av_getm {a f ix : Nat} (hf : av_lnF (av_own y) ix = some f) : av_p d y Q pc L (.ref a :: S) A (.getfield ix) = match A.2.2 a with | some (.inl (k, g)) => (match av_fi f k with | some i => av_g d y Q (pc + 3) L (g i :: S) A | none => False) | _ => False := by
  unfold av_p av_step
  dsimp only
  rw [hf]
  cases A.2.2 a with
  | none => rfl
  | some c => cases c with
    | inl o => rfl
    | inr r => rfl
theorem av_putm {a f ix : Nat} {v : Value} (hf : av_lnF (av_own y) ix = some f) (hc : av_ff f = false ∨ (av_ini y = true ∧ av_own y = av_fo f)) : av_p d y Q pc L (v :: .ref a :: S) A (.putfield ix) = match A.2.2 a with | some (.inl (k, g)) => (match av_fi f k with | some i => if av_K ≤ a ∧ av_ok (av_ft k i) v = true then av_g d y Q (pc + 3) L S (av_set A a (.inl (k, fun j => if j = i then v else g j))) else False | none => False) | _ => False := by
  unfold av_p av_step
  dsimp only
  rw [hf]
  cases A.2.2 a with
  | none => rfl
  | some c =>
    cases c with
    | inr r => rfl
    | inl o =>
      obtain ⟨k, g⟩ := o
      dsimp only
      cases av_fi f k with
      | none => rfl
      | some i =>
        dsimp only
        simp only [← and_assoc]
        exact av_ifand hc
theorem av_ism {z b ix : Nat} {as S0 : List Value} (hm : av_lnM (av_own y) ix = some z) (hn : z ≠ 1000) (hp : av_pop (av_na z) S0 [] = some (as, .ref b :: S)) (hi : av_inz z = true ∨ av_spr (av_own y) z = true) :
    av_p d y Q pc L S0 A (.invokespecial ix) = match A.2.2 b with | some (.inl _) => if S.length ≤ 12 then av_W d z (.ref b :: as) A (fun o A' => match o with | .inl v => av_g d y Q (pc + 3) L (v.toList ++ S) A' | .inr q => av_T d y pc L q A' Q) else False | _ => False := by
  unfold av_p av_step
  dsimp only
  rw [hm]
  dsimp only
  rw [if_neg hn, hp]
  dsimp only
  cases A.2.2 b with
  | none => rfl
  | some c => cases c with
    | inr r => rfl
    | inl o => exact av_ifand hi
theorem av_ivm {z b ix : Nat} {as S0 : List Value} (hm : av_lnM (av_own y) ix = some z) (hp : av_pop (av_na z) S0 [] = some (as, .ref b :: S)) (hi : av_itf z = false) :
    av_p d y Q pc L S0 A (.invokevirtual ix) = match A.2.2 b with | some (.inl (k, _)) => (match av_sel z k with | some z' => if S.length ≤ 12 then av_W d z' (.ref b :: as) A (fun o A' => match o with | .inl v => av_g d y Q (pc + 3) L (v.toList ++ S) A' | .inr q => av_T d y pc L q A' Q) else False | none => False) | _ => False := by
  unfold av_p av_step
  dsimp only
  rw [hm]
  dsimp only
  rw [hp]
  dsimp only
  cases A.2.2 b with
  | none => rfl
  | some c => cases c with
    | inr r => rfl
    | inl o =>
      obtain ⟨k, g⟩ := o
      dsimp only
      cases av_sel z k with
      | none => rfl
      | some z' => exact av_ifand hi
theorem av_iim {z b ix cnt : Nat} {as S0 : List Value} (hm : av_lnM (av_own y) ix = some z) (hp : av_pop (av_na z) S0 [] = some (as, .ref b :: S)) (hi : av_itf z = true) :
    av_p d y Q pc L S0 A (.invokeinterface ix cnt) = match A.2.2 b with | some (.inl (k, _)) => (match av_sel z k with | some z' => if S.length ≤ 12 then av_W d z' (.ref b :: as) A (fun o A' => match o with | .inl v => av_g d y Q (pc + 5) L (v.toList ++ S) A' | .inr q => av_T d y pc L q A' Q) else False | none => False) | _ => False := by
  unfold av_p av_step
  dsimp only
  rw [hm]
  dsimp only
  rw [hp]
  dsimp only
  cases A.2.2 b with
  | none => rfl
  | some c => cases c with
    | inr r => rfl
    | inl o =>
      obtain ⟨k, g⟩ := o
      dsimp only
      cases av_sel z k with
      | none => rfl
      | some z' => exact av_ifand hi
theorem av_lsd {a : Int32} {dflt : Int} {ps : Array (Int × Int)} (hs : (ps.toList.zip (ps.toList.drop 1)).all (fun (a, next) => a.1 < next.1) = true) (hno : ∀ q ∈ ps.toList, ¬ q.1 = a.toInt) :
    av_p d y Q pc L (.int a :: S) A (.lookupswitch dflt ps) = av_jmp False (av_g d y Q) pc dflt L S A := by
  unfold av_p av_step
  dsimp only
  rw [if_pos hs]
  rw [av_off _ _ _ hno]
end LNS

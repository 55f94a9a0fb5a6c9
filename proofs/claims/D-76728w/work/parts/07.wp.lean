/-! ===== what a run of the abstract machine comes to: av_W a call, av_G a body from a pc on ===== -/
theorem av_step_rel {α β : Type} (ρ : α → β → Prop) {bad : α} {bad' : β} {go : Nat → av_L → List Value → av_H → α} {go' : Nat → av_L → List Value → av_H → β} {ret : Option Value → av_H → α} {ret' : Option Value → av_H → β} {thr : Nat → av_H → α} {thr' : Nat → av_H → β}
    {call : Nat → List Value → av_H → (Option Value → av_H → α) → α} {call' : Nat → List Value → av_H → (Option Value → av_H → β) → β}
    (hb : ρ bad bad') (hgo : ∀ pc L S A, ρ (go pc L S A) (go' pc L S A)) (hret : ∀ v A, ρ (ret v A) (ret' v A)) (hthr : ∀ q A, ρ (thr q A) (thr' q A)) (hcall : ∀ z as A k k', (∀ v A, ρ (k v A) (k' v A)) → ρ (call z as A k) (call' z as A k'))
    (y pc : Nat) (L : av_L) (S : List Value) (A : av_H) (ins : Instr) : ρ (av_step bad go ret thr call y pc L S A ins) (av_step bad' go' ret' thr' call' y pc L S A ins) := by
  unfold av_step
  cases ins <;> simp only [av_jmp] <;>
    (repeat' first
      | exact hb
      | exact hgo _ _ _ _
      | exact hret _ _
      | exact hthr _ _
      | (refine hcall _ _ _ _ _ fun v A => ?_)
      | split)
theorem av_exec_succ (R : Nat → List Value → av_H → Option (av_R × av_H)) (y n pc : Nat) (L : av_L) (S : List Value) (A : av_H) : av_exec R y (n + 1) pc L S A = match av_fetch y pc with
    | none => none
    | some i => av_step none (fun pc L S A => av_exec R y n pc L S A) (fun v A => some (.inl v, A))
        (fun q A => match av_hnd y pc with | some h => (if av_isF A q = true then av_exec R y n h L [.ref q] A else none) | none => some (.inr q, A))
        (fun z as A k => match R z as A with
          | some (.inl v, A) => k v A
          | some (.inr q, A) => (match av_hnd y pc with | some h => (if av_isF A q = true then av_exec R y n h L [.ref q] A else none) | none => some (.inr q, A))
          | none => none)
        y pc L S A i := rfl
theorem av_exec_mono {R R' : Nat → List Value → av_H → Option (av_R × av_H)} (hR : ∀ z as A r, R z as A = some r → R' z as A = some r) (y : Nat) :
    ∀ n n', n ≤ n' → ∀ pc L S A r, av_exec R y n pc L S A = some r → av_exec R' y n' pc L S A = some r := by
  intro n
  induction n with
  | zero => intro n' _ pc L S A r h; exact absurd h (by simp [av_exec])
  | succ n ih =>
    intro n' hn pc L S A r h
    obtain ⟨n2, rfl⟩ : ∃ k, n' = k + 1 := ⟨n' - 1, by omega⟩
    have hn2 : n ≤ n2 := by omega
    unfold av_exec at h ⊢
    cases hf : av_fetch y pc with
    | none => rw [hf] at h; cases h
    | some i =>
      rw [hf] at h
      dsimp only at h ⊢
      revert h
      refine av_step_rel (fun a b => a = some r → b = some r) (fun h => h) (fun pc L S A h => ih n2 hn2 _ _ _ _ _ h) (fun v A h => h) (fun q A => ?_) (fun z as A k k' hk => ?_) y pc L S A i
      · cases av_hnd y pc with
        | none => exact fun h => h
        | some hh =>
          dsimp only
          split
          · exact fun h => ih n2 hn2 _ _ _ _ _ h
          · exact fun h => h
      · cases hz : R z as A with
        | none => intro h; cases h
        | some x =>
          obtain ⟨o, A'⟩ := x
          rw [hR _ _ _ _ hz]
          cases o with
          | inl v => exact fun h => hk v A' h
          | inr q =>
            dsimp only
            cases av_hnd y pc with
            | none => exact fun h => h
            | some hh =>
              dsimp only
              split
              · exact fun h => ih n2 hn2 _ _ _ _ _ h
              · exact fun h => h
theorem av_run_mono : ∀ d d' N N', d ≤ d' → N ≤ N' → ∀ z as A r, av_run N d z as A = some r → av_run N' d' z as A = some r := by
  intro d
  induction d with
  | zero => intro d' N N' _ _ z as A r h; exact absurd h (by simp [av_run])
  | succ d ih =>
    intro d' N N' hd hN z as A r h
    obtain ⟨d2, rfl⟩ : ∃ k, d' = k + 1 := ⟨d' - 1, by omega⟩
    have hd2 : d ≤ d2 := by omega
    unfold av_run at h ⊢
    by_cases hz : z < 2000
    · simp only [if_pos hz] at h ⊢
      by_cases hw : av_wid as ≤ av_ml z
      · rw [if_pos hw] at h ⊢
        exact av_exec_mono (fun z as A r h => ih d2 N N' hd2 hN z as A r h) z N N' hN _ _ _ _ _ h
      · rw [if_neg hw] at h
        cases h
    · simp only [if_neg hz] at h ⊢
      revert h
      split
      · split
        · split
          · split
            · exact fun h => ih d2 N N' hd2 hN _ _ _ _ h
            · exact fun h => h
          · exact fun h => h
        · exact fun h => h
      · exact fun h => h
/-- a body from a pc on comes to an end with Q -/
def av_G (d y pc : Nat) (L : av_L) (S : List Value) (A : av_H) (Q : av_R → av_H → Prop) : Prop := ∃ N o A', av_exec (fun z as A => av_run N d z as A) y N pc L S A = some (o, A') ∧ Q o A'
/-- a call comes to an end with Q -/
def av_W (d z : Nat) (as : List Value) (A : av_H) (Q : av_R → av_H → Prop) : Prop := ∃ N o A', av_run N d z as A = some (o, A') ∧ Q o A'
/-- behind a throw -/
def av_T (d y pc : Nat) (L : av_L) (q : Nat) (A : av_H) (Q : av_R → av_H → Prop) : Prop := match av_hnd y pc with
  | some h => av_isF A q = true ∧ av_G d y h L [.ref q] A Q
  | none => Q (.inr q) A
theorem av_G.mono {d d' y pc : Nat} {L : av_L} {S : List Value} {A : av_H} {Q Q' : av_R → av_H → Prop} (h : av_G d y pc L S A Q) (hd : d ≤ d') (hQ : ∀ o A', Q o A' → Q' o A') : av_G d' y pc L S A Q' := by
  obtain ⟨N, o, A', h1, h2⟩ := h
  exact ⟨N, o, A', av_exec_mono (fun z as A r h => av_run_mono d d' N N hd (Nat.le_refl _) z as A r h) y N N (Nat.le_refl _) _ _ _ _ _ h1, hQ o A' h2⟩
theorem av_W.mono {d d' z : Nat} {as : List Value} {A : av_H} {Q Q' : av_R → av_H → Prop} (h : av_W d z as A Q) (hd : d ≤ d') (hQ : ∀ o A', Q o A' → Q' o A') : av_W d' z as A Q' := by
  obtain ⟨N, o, A', h1, h2⟩ := h
  exact ⟨N, o, A', av_run_mono d d' N N hd (Nat.le_refl _) z as A _ h1, hQ o A' h2⟩
/-- one instruction as it acts on 'comes to an end with Q' -/
def av_P (d y pc : Nat) (L : av_L) (S : List Value) (A : av_H) (Q : av_R → av_H → Prop) (i : Instr) : Prop :=
  av_step False (fun pc L S A => av_G d y pc L S A Q) (fun v A => Q (.inl v) A) (fun q A => av_T d y pc L q A Q)
    (fun z as A k => av_W d z as A (fun o A' => match o with | .inl v => k v A' | .inr q => av_T d y pc L q A' Q)) y pc L S A i
theorem av_G_of {d y pc : Nat} {L : av_L} {S : List Value} {A : av_H} {Q : av_R → av_H → Prop} {i : Instr} (hf : av_fetch y pc = some i) (h : av_P d y pc L S A Q i) : av_G d y pc L S A Q := by
  -- families over the fuel
  have h1 : ∃ N0 o A', (∀ N, N0 ≤ N → av_step (fun _ => none) (fun pc L S A N => av_exec (fun z as A => av_run (N + 1) d z as A) y N pc L S A) (fun v A _ => some (.inl v, A))
        (fun q A N => match av_hnd y pc with | some h => (if av_isF A q = true then av_exec (fun z as A => av_run (N + 1) d z as A) y N h L [.ref q] A else none) | none => some (.inr q, A))
        (fun z as A k N => match av_run (N + 1) d z as A with
          | some (.inl v, A) => k v A N
          | some (.inr q, A) => (match av_hnd y pc with | some h => (if av_isF A q = true then av_exec (fun z as A => av_run (N + 1) d z as A) y N h L [.ref q] A else none) | none => some (.inr q, A))
          | none => none) y pc L S A i N = some (o, A')) ∧ Q o A' := by
    revert h
    unfold av_P
    refine av_step_rel (fun (b : Prop) (f : Nat → Option (av_R × av_H)) => b → ∃ N0 o A', (∀ N, N0 ≤ N → f N = some (o, A')) ∧ Q o A') (fun h => h.elim) (fun pc L S A h => ?_) (fun v A h => ⟨0, _, _, fun N _ => rfl, h⟩) (fun q A h => ?_) (fun z as A k k' hk h => ?_) y pc L S A i
    · obtain ⟨N0, o, A', h1, h2⟩ := h
      exact ⟨N0, o, A', fun N hN => av_exec_mono (fun z as A r h => av_run_mono d d N0 (N + 1) (Nat.le_refl _) (by omega) z as A r h) y N0 N hN _ _ _ _ _ h1, h2⟩
    · unfold av_T at h
      cases hh : av_hnd y pc with
      | none => rw [hh] at h; exact ⟨0, _, _, fun N _ => rfl, h⟩
      | some hp =>
        rw [hh] at h
        obtain ⟨hF, N0, o, A', h1, h2⟩ := h
        refine ⟨N0, o, A', fun N hN => ?_, h2⟩
        dsimp only
        rw [if_pos hF]
        exact av_exec_mono (fun z as A r h => av_run_mono d d N0 (N + 1) (Nat.le_refl _) (by omega) z as A r h) y N0 N hN _ _ _ _ _ h1
    · obtain ⟨N1, o1, A1, h1, h2⟩ := h
      cases o1 with
      | inl v =>
        obtain ⟨N0, o, A', h3, h4⟩ := hk v A1 h2
        refine ⟨max N0 N1, o, A', fun N hN => ?_, h4⟩
        rw [av_run_mono d d N1 (N + 1) (Nat.le_refl _) (by omega) z as A _ h1]
        exact h3 N (by omega)
      | inr q =>
        dsimp only at h2
        unfold av_T at h2
        cases hh : av_hnd y pc with
        | none =>
          rw [hh] at h2
          refine ⟨N1, _, _, fun N hN => ?_, h2⟩
          rw [av_run_mono d d N1 (N + 1) (Nat.le_refl _) (by omega) z as A _ h1]
        | some hp =>
          rw [hh] at h2
          obtain ⟨hF, N0, o, A', h3, h4⟩ := h2
          refine ⟨max N0 N1, o, A', fun N hN => ?_, h4⟩
          rw [av_run_mono d d N1 (N + 1) (Nat.le_refl _) (by omega) z as A _ h1]
          dsimp only
          rw [if_pos hF]
          exact av_exec_mono (fun z as A r h => av_run_mono d d N0 (N + 1) (Nat.le_refl _) (by omega) z as A r h) y N0 N (by omega) _ _ _ _ _ h3
  obtain ⟨N, o, A', h2, h3⟩ := h1
  refine ⟨N + 1, o, A', ?_, h3⟩
  have h4 := h2 N (Nat.le_refl _)
  rw [← h4, av_exec_succ, hf]
  dsimp only
  refine av_step_rel (fun (a : Option (av_R × av_H)) (f : Nat → Option (av_R × av_H)) => a = f N) (bad := none) (bad' := fun _ => none)
    (go := fun pc L S A => av_exec (fun z as A => av_run (N + 1) d z as A) y N pc L S A) (go' := fun pc L S A N => av_exec (fun z as A => av_run (N + 1) d z as A) y N pc L S A)
    (ret := fun v A => some (.inl v, A)) (ret' := fun v A _ => some (.inl v, A))
    (thr' := fun q A N => match av_hnd y pc with | some h => (if av_isF A q = true then av_exec (fun z as A => av_run (N + 1) d z as A) y N h L [.ref q] A else none) | none => some (.inr q, A))
    (call' := fun z as A k N => match av_run (N + 1) d z as A with
          | some (.inl v, A) => k v A N
          | some (.inr q, A) => (match av_hnd y pc with | some h => (if av_isF A q = true then av_exec (fun z as A => av_run (N + 1) d z as A) y N h L [.ref q] A else none) | none => some (.inr q, A))
          | none => none)
    rfl (fun _ _ _ _ => rfl) (fun _ _ => rfl) (fun q A => rfl) (fun z as A k k' hk => ?_) y pc L S A i
  cases av_run (N + 1) d z as A with
  | none => rfl
  | some x =>
    obtain ⟨o, A'⟩ := x
    cases o with
    | inl v => exact hk v A'
    | inr q => rfl
theorem av_W_of {d z : Nat} {as : List Value} {A : av_H} {Q : av_R → av_H → Prop} (hz : z < 2000) (hw : av_wid as ≤ av_ml z) (h : av_G d z 0 (av_ent 0 as) [] A Q) : av_W (d + 1) z as A Q := by
  obtain ⟨N, o, A', h1, h2⟩ := h
  refine ⟨N, o, A', ?_, h2⟩
  unfold av_run
  rw [if_pos hz, if_pos hw]
  exact h1
theorem av_W_lam {d j b : Nat} {f : Nat → Value} {as : List Value} {A : av_H} {Q : av_R → av_H → Prop} (hb : A.2.2 b = some (.inl (100 + j, f))) (hq : av_lq j (f 0) as A = true) (h : av_W d (av_ly j) ((List.range (av_lt j).length).map f ++ as) A Q) : av_W (d + 1) (2000 + j) (.ref b :: as) A Q := by
  obtain ⟨N, o, A', h1, h2⟩ := h
  refine ⟨N, o, A', ?_, h2⟩
  unfold av_run
  rw [if_neg (by omega)]
  simp only [hb, show 2000 + j - 2000 = j by omega, if_true, hq]
  exact h1

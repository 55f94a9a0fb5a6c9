/-! ===== SOUNDNESS, 8: throws; a call in a body ===== -/
section SNF
variable {cx : av_X} {p : Program} {l : Launch} {e : Env} {R : Room} {s : State} {m : MethodId} {args : Array Value} {below : List Frame} {meth : Method} {c : Code} {y : Nat} {o : av_R} {A' : av_H} {kc ks : Nat} {R0 : Nat → List Value → av_H → Option (av_R × av_H)}
variable {n pc ln : Nat} {L : av_L} {S : List Value} {A : av_H} {H : Heap} {ls : Array Slot} {locs : List Loc} {cells slots : Nat}
theorem av_noR : av_fetch av_yR 9999 = none := by decide +kernel
theorem av_kFok : av_kF < av_nK ∧ av_cn av_kF = "StockEvents$Fault" ∧ av_on (av_own av_yR) = "StockEvents$Reader" := by decide +kernel
theorem av_thrown (C : av_ctx cx) (hF1 : Cond.classLink "StockEvents$Reader" 34 "StockEvents$Fault" ∈ lw_all) (hF2 : Cond.castable "StockEvents$Fault" "StockEvents$Fault" ∈ lw_tbl) (F : av_Fr cx p s m meth c y) (ih : av_IH cx p l e R s m args below meth c y o A' kc ks R0 n) {q : Nat}
    (h : (match av_hnd y pc with | some hp => (if av_isF A q = true then av_exec R0 y n hp L [.ref q] A else none) | none => some (.inr q, A)) = some (o, A')) (J : av_J cx R y A A' H ls L locs cells slots kc ks) {qa : Addr} (hq : av_sg cx q = .ref qa) (st : List Value) :
    ∀ T : State, T.heap = H → Stand p l e R s m args below meth c T locs cells slots → ∃ t, Steps p.tables e below ((T.setTop (F0 m pc ls st)).pushFrame (.throwing qa)) t ∧ av_Q cx s below o A' kc ks t := by
  obtain ⟨hx, hb, hr, hlocks, hml, hown, hW0, hini, ht1, ht2, -⟩ := F
  intro T hT X
  by_cases hR : y = av_yR
  · have htab := ht2 hR
    unfold av_hnd at h
    rw [if_pos (show y = 186 from hR)] at h
    by_cases hpc : pc < 32
    · rw [if_pos hpc] at h
      dsimp only at h
      split at h
      · next hFq =>
        have hcell : ∃ f, A.2.2 q = some (.inl (av_kF, f)) := by
          unfold av_isF at hFq
          split at hFq
          · next o1 ho =>
            obtain ⟨k, f⟩ := o1
            have : k = av_kF := by simpa using hFq
            subst this
            exact ⟨f, ho⟩
          · cases hFq
        obtain ⟨f, hc⟩ := hcell
        obtain ⟨q', hq', cell, h1, h2, h3, h4, h5, -⟩ := J.1.at hc
        cases hq.symm.trans hq'
        obtain ⟨-, hcls, -⟩ := h5 (by decide)
        obtain ⟨-, hfc, kC, hkC, -⟩ := av_kn C hW0 av_kFok.1
        rw [av_kFok.2.1, ← hcls] at hfc
        have hown' : s.vm.findClass "StockEvents$Reader" = some m.cls := by rw [← av_kFok.2.2, ← hR]; exact hown
        have hpl : e.platform.magicAccessors = ({} : Platform).magicAccessors := by rw [X.admits.platform]
        have hcast : (Cond.castable "StockEvents$Fault" "StockEvents$Fault").before args s = true := by
          obtain ⟨A0, hA⟩ := C.1
          exact va_Nw.use rfl (va_Nw.warmC hW0 (va_Nw.of rfl (hA _ hF2)))
        obtain ⟨c3, c4, hc3, hc4, hasg⟩ := Cond.castable_spec hcast
        cases Option.some.inj (hc3.symm.trans hfc)
        obtain ⟨c5, hc5, hcl5⟩ := Cond.classLink_spec hown' (av_word C hW0 hF1 args) e.platform hpl
        cases Option.some.inj (hc4.symm.trans hc5)
        obtain ⟨vm', X', st'⟩ := X.thenCaughtThrough qa (g := F0 m pc ls st) rfl (Steps.refl _) (by rw [hT]; exact h1) h2 ⟨kC, by rw [hcls]; exact hkC⟩ [] ⟨0, 32, 42, 34⟩ [⟨0, 32, 61, 0⟩, ⟨42, 51, 61, 0⟩] htab
          (fun z hz => by cases hz) (by simp [covers]; omega) (Or.inr ⟨by decide, c4, hcl5, hasg⟩)
        have hk := ih _ _ _ _ h _ _ _ _ _ J
        rw [show ([Value.ref q] : List Value).map (av_cv cx) = [av_sg cx q] from rfl, hq] at hk
        obtain ⟨t, a1, b1⟩ := hk (T.setVm vm') hT X'
        exact ⟨t, st'.trans a1, b1⟩
      · cases h
    · rw [if_neg hpc] at h
      dsimp only at h
      split at h
      · exfalso
        rw [hR] at h
        cases n with
        | zero => cases h
        | succ n =>
          rw [av_exec_succ, av_noR] at h
          cases h
      · cases h
  · have hh : av_hnd y pc = none := by
      unfold av_hnd
      rw [if_neg (show ¬ y = 186 from hR)]
    rw [hh] at h
    cases h
    have htab := ht1 hR
    obtain ⟨st1, hrun, hend, hW, hsm⟩ := X.leaveThrown qa (g := F0 m pc ls st) rfl rfl rfl (fun x hx => by rw [htab] at hx; cases hx) hlocks
    exact ⟨_, st1, .threw qa, hrun, hend, ⟨qa, hq, rfl⟩, by have hj := J.1; rw [← hT] at hj; exact hj, hW, locs, hsm.mono (by have := J.2.2.2.1; omega) (by have := J.2.2.2.2.1; omega), J.2.2.1⟩
theorem av_s_athrow (C : av_ctx cx) (hF1 : Cond.classLink "StockEvents$Reader" 34 "StockEvents$Fault" ∈ lw_all) (hF2 : Cond.castable "StockEvents$Fault" "StockEvents$Fault" ∈ lw_tbl) (F : av_Fr cx p s m meth c y) (ih : av_IH cx p l e R s m args below meth c y o A' kc ks R0 n) (hd : decode (av_bytes y) pc = .ok (.athrow, ln)) (hln : ln = av_len (.athrow) ∨ av_len (.athrow) = 0) (h : av_stp R0 y n pc L S A (.athrow) = some (o, A')) (J : av_J cx R y A A' H ls L locs cells slots kc ks) :
    W p l e R s m args below meth c H locs cells slots (av_Q cx s below o A' kc ks) (F0 m pc ls (S.map (av_cv cx))) := by
  cases av_ln1 hln (k := 1) rfl (by decide)
  have F0' := F
  obtain ⟨hx, hb, hr, hlocks, hml, hown, hW0, hini, -⟩ := F
  simp only [av_stp, av_step] at h
  split at h
  · next q S1 =>
    split at h
    · next k f hc =>
      split at h
      · obtain ⟨qa, hq, -⟩ := J.1.at hc
        intro T hT X
        obtain ⟨t, st, hQ⟩ := av_thrown C hF1 hF2 F0' ih h J hq (S1.map (av_cv cx)) T hT X
        refine ⟨t, ?_, hQ⟩
        have hdg' : decode c.code pc = .ok (.athrow, 1) := by rw [hb]; exact hd
        rw [show (Value.ref q :: S1).map (av_cv cx) = av_sg cx q :: S1.map (av_cv cx) from rfl, hq]
        jvm_step X.here [X.here.top, hx, hdg', athrow.wp_sem]
        exact st
      · cases h
    · cases h
  · cases h
/-- a call in a body: what runs it, what follows -/
theorem av_w_call (C : av_ctx cx) (hF1 : Cond.classLink "StockEvents$Reader" 34 "StockEvents$Fault" ∈ lw_all) (hF2 : Cond.castable "StockEvents$Fault" "StockEvents$Fault" ∈ lw_tbl) (F : av_Fr cx p s m meth c y) (hsz : ∀ n pc L S A o A', av_exec R0 y n pc L S A = some (o, A') → av_le A A') (hR0 : ∀ z as A o A', R0 z as A = some (o, A') → av_le A A')
    (ih : av_IH cx p l e R s m args below meth c y o A' kc ks R0 n) {z : Nat} {as : List Value} {asv : Array Value} {len : Nat} {st : List Value}
    (h : (match R0 z as A with
          | some (.inl v, A1) => av_exec R0 y n (pc + len) L (v.toList ++ S) A1
          | some (.inr q, A1) => (match av_hnd y pc with | some hp => (if av_isF A1 q = true then av_exec R0 y n hp L [.ref q] A1 else none) | none => some (.inr q, A1))
          | none => none) = some (o, A')) (J : av_J cx R y A A' H ls L locs cells slots kc ks)
    (hrun : ∀ o1 A1, R0 z as A = some (o1, A1) → cells + (A1.1 - A.1) ≤ R.cells → slots + (A1.2.1 - A.2.1) ≤ R.slots → ∀ T : State, T.heap = H → Stand p l e R s m args below meth c T locs cells slots → ∃ (vm' : Vm) (mk : MethodId),
      (∀ target, (∀ acts, Steps p.tables e below (doInvoke e ((T.setVm vm').setTop (F0 m pc ls (S.map (av_cv cx)))) acts mk asv).1 target) → Steps p.tables e below (T.setTop (F0 m pc ls st)) target) ∧
      av_Out cx p l e R s m args below meth c (T.setVm vm') locs cells slots (F0 m pc ls (S.map (av_cv cx))) len mk asv o1 A1 (A1.1 - A.1) (A1.2.1 - A.2.1)) :
    W p l e R s m args below meth c H locs cells slots (av_Q cx s below o A' kc ks) (F0 m pc ls st) := by
  intro T hT X
  obtain ⟨j1, j2, j3, j4, j5, j6, j7⟩ := J
  cases hz : R0 z as A with
  | none => rw [hz] at h; cases h
  | some r =>
    obtain ⟨o1, A1⟩ := r
    rw [hz] at h
    have hle := hR0 _ _ _ _ _ hz
    have hle2 : av_le A1 A' := by
      cases o1 with
      | inl v => exact hsz _ _ _ _ _ _ _ h
      | inr q =>
        dsimp only at h
        cases hh : av_hnd y pc with
        | none => rw [hh] at h; cases h; exact av_le.rf _
        | some hp =>
          rw [hh] at h
          dsimp only at h
          split at h
          · exact hsz _ _ _ _ _ _ _ h
          · cases h
    have l1 := hle.1; have l2 := hle.2; have l3 := hle2.1; have l4 := hle2.2
    obtain ⟨vm', mk, hstep, T', L', X', hrel, hL, hout⟩ := hrun o1 A1 hz (by omega) (by omega) T hT X
    have hlocs : ∀ z ∈ locs ++ L', cx.1.heap.size ≤ z.base := fun z hz => by
      rcases List.mem_append.mp hz with q | q
      · exact j3 z q
      · exact hL z q
    have J1 : av_J cx R y A1 A' T'.heap ls L (locs ++ L') (cells + (A1.1 - A.1)) (slots + (A1.2.1 - A.2.1)) kc ks := ⟨hrel, j2, hlocs, by omega, by omega, j6, j7⟩
    cases o1 with
    | inl v =>
      dsimp only at h hout
      obtain ⟨t, a1, b1⟩ := ih _ _ _ _ h _ _ _ _ _ J1 T' rfl X'
      refine ⟨t, hstep _ (fun acts => (hout acts).trans ?_), b1⟩
      have e1 : (v.toList ++ S).map (av_cv cx) = (v.map (av_cv cx)).toList ++ S.map (av_cv cx) := by cases v <;> rfl
      rw [e1] at a1
      exact a1
    | inr q =>
      obtain ⟨a, ha, hout⟩ := hout
      obtain ⟨t, a1, b1⟩ := av_thrown C hF1 hF2 F ih h J1 ha (S.map (av_cv cx)) T' rfl X'
      exact ⟨t, hstep _ (fun acts => (hout acts).trans a1), b1⟩
end SNF

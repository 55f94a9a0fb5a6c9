/-! ===== SOUNDNESS, 9: the calls, one kind after another ===== -/
theorem av_sum_le (cx : av_X) : ∀ (S : List Value) (k : Nat), S.length ≤ k → ((S.map (av_cv cx)).map fun v => v.category).sum ≤ 2 * k := by
  intro S
  induction S with
  | nil => intro k _; simp
  | cons v t ih =>
    intro k hk
    simp only [List.length_cons] at hk
    have h1 := ih (k - 1) (by omega)
    have h2 : (av_cv cx v).category ≤ 2 := by rcases lv_cat (av_cv cx v) with q | q <;> omega
    simp only [List.map_cons, List.sum_cons]
    omega
theorem av_pop_spec : ∀ (n : Nat) (S acc as S' : List Value), av_pop n S acc = some (as, S') → ∃ pre, S = pre ++ S' ∧ as = pre.reverse ++ acc ∧ pre.length = n := by
  intro n
  induction n with
  | zero =>
    intro S acc as S' h
    simp only [av_pop, Option.some.injEq, Prod.mk.injEq] at h
    obtain ⟨rfl, rfl⟩ := h
    exact ⟨[], rfl, rfl, rfl⟩
  | succ n ih =>
    intro S acc as S' h
    cases S with
    | nil => simp [av_pop] at h
    | cons v S =>
      simp only [av_pop] at h
      obtain ⟨pre, h1, h2, h3⟩ := ih _ _ _ _ h
      exact ⟨v :: pre, by rw [h1]; rfl, by rw [h2]; simp, by simp [h3]⟩
theorem av_pop_map (cx : av_X) {n : Nat} {S as S' : List Value} (h : av_pop n S [] = some (as, S')) : S.map (av_cv cx) = (as.map (av_cv cx)).reverse ++ S'.map (av_cv cx) ∧ as.length = n := by
  obtain ⟨pre, h1, h2, h3⟩ := av_pop_spec _ _ _ _ _ h
  simp only [List.append_nil] at h2
  subst h2
  refine ⟨by rw [h1, List.map_append, List.map_reverse, List.reverse_reverse], by simpa using h3⟩
section SNG
variable {cx : av_X} {p : Program} {l : Launch} {e : Env} {R : Room} {s : State} {m : MethodId} {args : Array Value} {below : List Frame} {meth : Method} {c : Code} {y : Nat} {o : av_R} {A' : av_H} {kc ks : Nat} {d N : Nat}
variable {n pc ln : Nat} {L : av_L} {S : List Value} {A : av_H} {H : Heap} {ls : Array Slot} {locs : List Loc} {cells slots : Nat}
theorem av_named (C : av_ctx cx) (hW : cx.1.WarmedH s.vm) {z : Nat} (hz : z < av_nY) (hz0 : z ≠ 0) : ∃ mk, s.methodNamed? (av_yn z) = some mk := by
  by_cases hR : z = av_yR
  · subst hR
    have hw : (Cond.codeWith (av_yn av_yR) (av_bytes av_yR) (av_ml av_yR) (av_rty av_yR) [(0, 32, 42, 34), (0, 32, 61, 0), (42, 51, 61, 0)]).before #[] s = true := av_wordT C hW av_okCr rfl #[]
    obtain ⟨m9, meth, c, hn9, -⟩ := Cond.codeWith_spec hw
    exact ⟨m9, hn9⟩
  · have hm : z ∈ av_cwl := by
      have h := av_cwm
      rw [List.all_eq_true] at h
      have h := h z (List.mem_range.mpr hz)
      simp only [Bool.or_eq_true, beq_iff_eq, List.contains_iff_mem] at h
      rcases h with (h | h) | h
      · exact absurd h hz0
      · exact absurd h hR
      · exact h
    have hw : (Cond.code (av_yn z) (av_bytes z) (av_ml z) (av_rty z)).before #[] s = true := av_wordT C hW (av_cws z hm) rfl #[]
    exact Cond.code_named hw
theorem av_initd (C : av_ctx cx) (hW : cx.1.WarmedH s.vm) {z : Nat} (hz : z < av_nY) {mk : MethodId} (hn : s.methodNamed? (av_yn z) = some mk) : ∃ k, s.vm.classes[mk.cls]? = some k ∧ k.init = .initialized := by
  obtain ⟨kP, hkP, -⟩ := className_of_methodNamed hn
  exact ⟨kP, hkP, Cond.initialized_spec (findClass_of_methodNamed hn) hkP (av_wordT C hW (av_okYs hz).1 rfl #[])⟩
theorem av_xn_lt {z : Nat} (h : z < 1000) : av_xn z = av_yn z := by
  unfold av_xn
  rw [if_pos h]
theorem av_inSt {z : Nat} (h : av_stt z = true) : z < av_nY ∧ z ≠ 0 ∧ Cond.static (av_yn z) ∈ lw_tbl := by
  unfold av_stt at h
  rw [List.contains_iff_mem] at h
  obtain ⟨j, hj⟩ := List.getElem?_of_mem h
  have hl : j < av_wSt.length := by rw [← av_okSt.2]; exact (List.getElem?_eq_some_iff.mp hj).1
  have hz : (av_sttL.zip av_wSt)[j]? = some (z, av_wSt[j]) := by
    rw [List.getElem?_zip_eq_some]
    exact ⟨hj, List.getElem?_eq_getElem hl⟩
  have hk := av_okSt.1
  rw [List.all_eq_true] at hk
  have hk := hk _ (List.mem_of_getElem? hz)
  simp only [Bool.and_eq_true, decide_eq_true_eq] at hk
  exact ⟨hk.1.1, hk.1.2, av_is_in hk.2⟩
theorem av_inInz {z : Nat} (h : av_inz z = true) : z < av_nY ∧ z ≠ 0 ∧ z ≠ av_yR ∧ (av_yn z).name = "<init>" ∧ av_rty z = none ∧ Cond.instanceMethod (av_yn z) ∈ lw_tbl := by
  unfold av_inz at h
  rw [List.contains_iff_mem] at h
  obtain ⟨j, hj⟩ := List.getElem?_of_mem h
  have hl : j < av_wIn.length := by rw [← av_okIn.2]; exact (List.getElem?_eq_some_iff.mp hj).1
  have hz : (av_inzL.zip av_wIn)[j]? = some (z, av_wIn[j]) := by
    rw [List.getElem?_zip_eq_some]
    exact ⟨hj, List.getElem?_eq_getElem hl⟩
  have hk := av_okIn.1
  rw [List.all_eq_true] at hk
  have hk := hk _ (List.mem_of_getElem? hz)
  simp only [Bool.and_eq_true, decide_eq_true_eq] at hk
  exact ⟨hk.1.1.1.1.1, hk.1.1.1.1.2, hk.1.1.1.2, hk.1.1.2, hk.1.2, av_is_in hk.2⟩
theorem av_plen {z : Nat} (hz : z < av_nY) : ∀ sig, parseMethodDescriptor (av_yn z).desc = some sig → av_na z = sig.parameters.length := by
  intro sig h
  have h2 := (av_okYs hz).2.2.2.2.1
  rw [h] at h2
  exact (Option.some.inj h2).symm
theorem av_s_invokestatic (C : av_ctx cx) (hF1 : Cond.classLink "StockEvents$Reader" 34 "StockEvents$Fault" ∈ lw_all) (hF2 : Cond.castable "StockEvents$Fault" "StockEvents$Fault" ∈ lw_tbl) (IHd : av_Snd cx l d N) (hfr : d + 1 ≤ R.frames) (hlo : 64 * (d + 1) + 3200 ≤ R.locals) (F : av_Fr cx p s m meth c y) {ix : Nat}
    (hac : av_lnM (av_own y) ix = some 1001 → av_stp (fun z as A => av_run N d z as A) y n pc L S A (.invokestatic ix) = some (o, A') → W p l e R s m args below meth c H locs cells slots (av_Q cx s below o A' kc ks) (F0 m pc ls (S.map (av_cv cx))))
    (ih : av_IH cx p l e R s m args below meth c y o A' kc ks (fun z as A => av_run N d z as A) n) (hd : decode (av_bytes y) pc = .ok (.invokestatic ix, ln)) (hln : ln = av_len (.invokestatic ix) ∨ av_len (.invokestatic ix) = 0) (h : av_stp (fun z as A => av_run N d z as A) y n pc L S A (.invokestatic ix) = some (o, A')) (J : av_J cx R y A A' H ls L locs cells slots kc ks) :
    W p l e R s m args below meth c H locs cells slots (av_Q cx s below o A' kc ks) (F0 m pc ls (S.map (av_cv cx))) := by
  have h0 := h
  cases av_ln1 hln (k := 3) rfl (by decide)
  have F0' := F
  obtain ⟨hx, hb, hr, hlocks, hml, hown, hW0, hini, -⟩ := F
  simp only [av_stp, av_step] at h
  split at h
  · next z hz =>
    split at h
    · next hz1 => exact hac (by rw [hz, hz1]) h0
    · split at h
      · next as S1 hpop =>
        split at h
        · next hcond =>
          obtain ⟨hlen, hstt⟩ := hcond
          obtain ⟨hzN, hz0, hsw⟩ := av_inSt hstt
          obtain ⟨hst, hal⟩ := av_pop_map cx hpop
          obtain ⟨mk, hn⟩ := av_named C hW0 hzN hz0
          obtain ⟨methk, ck, hmk, -, -, -, -, -, hsig, -⟩ := av_found C hW0 hzN hz0 hn
          have hstat : methk.isStatic = true := Cond.static_spec hn hmk (av_wordT C hW0 hsw rfl args)
          obtain ⟨kP, hkP, hkI⟩ := av_initd C hW0 hzN hn
          have hy := av_okYs hzN
          have hlenA : (as.map (av_cv cx)).length = methk.sig.parameters.length := by rw [List.length_map, hal]; exact av_plen hzN _ hsig
          rw [hst]
          refine av_w_call (asv := (as.map (av_cv cx)).toArray) (len := 3) C hF1 hF2 F0' (av_exec_le (fun z as A o A' h => av_run_le _ _ _ _ _ _ _ h) y) (fun z as A o A' h => av_run_le _ _ _ _ _ _ _ h) ih h J (fun o1 A1 hrun hcc hss T hT X => ?_)
          have hxl : av_xn z = av_yn z := av_xn_lt (Nat.lt_of_lt_of_le hzN (by decide))
          have hprep : ∃ vm', Stand p l e R s m args below meth c (T.setVm vm') locs cells slots ∧ ∀ target, (∀ acts, Steps p.tables e below (doInvoke e ((T.setVm vm').setTop (F0 m pc ls (S1.map (av_cv cx)))) acts mk (as.map (av_cv cx)).toArray).1 target) → Steps p.tables e below (T.setTop (F0 m pc ls ((as.map (av_cv cx)).reverse ++ S1.map (av_cv cx)))) target := by
            rcases av_inM hz with hw | hw
            · rw [hxl] at hw
              exact X.invokestatic hx hown (av_wordT C hW0 hw rfl args) hn hmk hstat hkP hkI ⟨hy.2.2.1, hy.2.2.2.1⟩ (g := F0 m pc ls ((as.map (av_cv cx)).reverse ++ S1.map (av_cv cx))) rfl hlenA rfl (by rw [hb]; exact hd)
            · obtain ⟨hw, -⟩ := hw
              rw [hxl] at hw
              exact X.invokestaticNest hx hown (av_wordM C hW0 hw args) hn hmk hstat hkP hkI ⟨hy.2.2.1, hy.2.2.2.1⟩ (g := F0 m pc ls ((as.map (av_cv cx)).reverse ++ S1.map (av_cv cx))) rfl hlenA rfl (by rw [hb]; exact hd)
          obtain ⟨vm', X', hstep⟩ := hprep
          refine ⟨vm', mk, hstep, ?_⟩
          exact av_callZ C IHd X' hx (hW0.trans X'.warmed) (g := F0 m pc ls (S1.map (av_cv cx))) rfl (J.2.1.1.trans hml.symm) rfl (av_sum_le cx S1 12 hlen) (by rw [hb]; exact hd) hzN hz0 (X'.named hn) hrun (by show av_rel cx A T.heap; rw [hT]; exact J.1) hfr hlo hcc hss
        · cases h
      · cases h
  · cases h
end SNG

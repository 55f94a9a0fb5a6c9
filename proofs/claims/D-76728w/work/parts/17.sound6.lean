/-! ===== SOUNDNESS, 7: a call ===== -/
/-- the method numbered z, as the machine has it -/
def av_isM (cx : av_X) (U : State) (z : Nat) (mk : MethodId) : Prop := if z < 2000 then z < av_nY ∧ z ≠ 0 ∧ U.methodNamed? (av_yn z) = some mk else z - 2000 < av_nJ ∧ mk = ⟨cx.2.2.1 (z - 2000), 1⟩
/-- a body from its entry: what the walk of av_run at depth d says of the machine -/
def av_Snd (cx : av_X) (l : Launch) (d N : Nat) : Prop := ∀ z as A o A', z < 2000 → av_run N d z as A = some (o, A') → ∀ {p : Program} {e : Env} {R : Room} {s : State} {m : MethodId} {below : List Frame} {meth : Method} {c : Code}, av_Fr cx p s m meth c z → d ≤ R.frames → 64 * d + 3200 ≤ R.locals →
  ∀ H, av_rel cx A H → A'.1 - A.1 ≤ R.cells → A'.2.1 - A.2.1 ≤ R.slots → W p l e R s m (as.map (av_cv cx)).toArray below meth c H [] 0 0 (av_Q cx s below o A' (A'.1 - A.1) (A'.2.1 - A.2.1)) (entryFrame m (as.map (av_cv cx)).toArray (av_ml z))
/-- what a call comes to in its caller -/
def av_Out (cx : av_X) (p : Program) (l : Launch) (e : Env) (R : Room) (s : State) (m : MethodId) (args : Array Value) (below : List Frame) (meth : Method) (c : Code) (T : State) (locs : List Loc) (cells slots : Nat) (g : JFrame) (len : Nat) (mk : MethodId) (asv : Array Value) (o : av_R) (A' : av_H) (dc ds : Nat) : Prop :=
  ∃ (T' : State) (L : List Loc), Stand p l e R s m args below meth c T' (locs ++ L) (cells + dc) (slots + ds) ∧ av_rel cx A' T'.heap ∧ (∀ z ∈ L, cx.1.heap.size ≤ z.base) ∧
    match o with
    | .inl v => ∀ acts, Steps p.tables e below (doInvoke e (T.setTop g) acts mk asv).1 (T'.setTop { g with pc := g.pc + len, stack := (v.map (av_cv cx)).toList ++ g.stack })
    | .inr q => ∃ a, av_sg cx q = .ref a ∧ ∀ acts, Steps p.tables e below (doInvoke e (T.setTop g) acts mk asv).1 ((T'.setTop g).pushFrame (.throwing a))
section CAL
variable {cx : av_X} {p : Program} {l : Launch} {e : Env} {R : Room} {s : State} {m : MethodId} {args : Array Value} {below : List Frame} {meth : Method} {c : Code} {T : State} {locs : List Loc} {cells slots : Nat}
theorem av_okYs {z : Nat} (hz : z < av_nY) : Cond.initialized (av_yn z).cls ∈ lw_tbl ∧ (av_yn z).cls = av_on (av_own z) ∧ (av_yn z).cls ≠ "java/lang/invoke/MethodHandle" ∧ (av_yn z).cls ≠ "java/lang/invoke/VarHandle" ∧ (parseMethodDescriptor (av_yn z).desc).map (fun d => d.parameters.length) = some (av_na z) ∧ plainFor (av_yn z) = true ∧ av_ml z ≤ 24 ∧ (av_ini z = true → (av_yn z).name = "<init>") := by
  have h1 := av_okY1
  have h2 := av_okY2
  have h3 := av_okY3
  have h5 := av_okY5
  rw [List.all_eq_true] at h1 h2 h3 h5
  have h1 := h1 z (List.mem_range.mpr hz)
  have h2 := h2 z (List.mem_range.mpr hz)
  have h3 := h3 z (List.mem_range.mpr hz)
  have h5 := h5 z (List.mem_range.mpr hz)
  simp only [av_ckP, Bool.and_eq_true, decide_eq_true_eq, Bool.or_eq_true, Bool.not_eq_true', beq_iff_eq] at h2 h3 h5
  split at h1
  · simp only [Bool.and_eq_true, decide_eq_true_eq] at h1
    refine ⟨av_is_in h1.1, h1.2, h2.1, h2.2, h3, av_okY6 hz, h5.1, fun hi => ?_⟩
    rcases h5.2 with h8 | h8
    · rw [hi] at h8; cases h8
    · exact h8
  · cases h1
/-- the machine's method of that name has our code -/
theorem av_found (hC : av_ctx cx) {U : State} (hW : cx.1.WarmedH U.vm) {z : Nat} (hz : z < av_nY) (hz0 : z ≠ 0) {mk : MethodId} (hn : U.methodNamed? (av_yn z) = some mk) :
    ∃ methk ck, U.vm.method? mk = some methk ∧ methk.code = some ck ∧ ck.code = av_bytes z ∧ ck.maxLocals = av_ml z ∧ methk.sig.returnType = av_rty z ∧ methk.locks = false ∧ parseMethodDescriptor (av_yn z).desc = some methk.sig ∧
      (z ≠ av_yR → ck.exceptionTable.toList = []) ∧ (z = av_yR → ck.exceptionTable.toList = [⟨0, 32, 42, 34⟩, ⟨0, 32, 61, 0⟩, ⟨42, 51, 61, 0⟩]) := by
  by_cases hR : z = av_yR
  · subst hR
    have hw : (Cond.codeWith (av_yn av_yR) (av_bytes av_yR) (av_ml av_yR) (av_rty av_yR) [(0, 32, 42, 34), (0, 32, 61, 0), (42, 51, 61, 0)]).before #[] U = true := av_wordT hC hW av_okCr rfl #[]
    obtain ⟨m9, meth, c, hn9, h1, h2, h3, h4, h5, h6, h7, h8⟩ := Cond.codeWith_spec hw
    cases hn.symm.trans hn9
    refine ⟨meth, c, h1, h2, h3, h4, h6, h7, h8, fun q => absurd rfl q, fun _ => ?_⟩
    have hx : ∀ (l : List ExceptionTableEntry), l.map (fun h => (h.startPc, h.endPc, h.handlerPc, h.catchType)) = [(0, 32, 42, 34), (0, 32, 61, 0), (42, 51, 61, 0)] → l = [⟨0, 32, 42, 34⟩, ⟨0, 32, 61, 0⟩, ⟨42, 51, 61, 0⟩] := by
      intro l hl
      match l, hl with
      | [a, b, d], hl =>
        obtain ⟨a1, a2, a3, a4⟩ := a
        obtain ⟨b1, b2, b3, b4⟩ := b
        obtain ⟨d1, d2, d3, d4⟩ := d
        simp only [List.map_cons, List.map_nil, List.cons.injEq, Prod.mk.injEq, and_true] at hl
        obtain ⟨⟨rfl, rfl, rfl, rfl⟩, ⟨rfl, rfl, rfl, rfl⟩, ⟨rfl, rfl, rfl, rfl⟩⟩ := hl
        rfl
      | [], hl => simp at hl
      | [_], hl => simp at hl
      | [_, _], hl => simp at hl
      | _ :: _ :: _ :: _ :: _, hl => simp at hl
    exact hx _ h5
  · have hm : z ∈ av_cwl := by
      have h := av_cwm
      rw [List.all_eq_true] at h
      have h := h z (List.mem_range.mpr hz)
      simp only [Bool.or_eq_true, beq_iff_eq, List.contains_iff_mem] at h
      rcases h with (h | h) | h
      · exact absurd h hz0
      · exact absurd h hR
      · exact h
    have hw : (Cond.code (av_yn z) (av_bytes z) (av_ml z) (av_rty z)).before #[] U = true := av_wordT hC hW (av_cws z hm) rfl #[]
    obtain ⟨methk, ck, h1, h2, h3, h4, h5, h6, h7, h8⟩ := Cond.code_spec hn hw
    refine ⟨methk, ck, h1, h2, h3, h4, h5, h6, h8, fun _ => ?_, fun q => absurd q hR⟩
    rw [Array.isEmpty_iff.mp h7]
/-- a call of a method of ours: it runs by its body's walk -/
theorem av_callZ (hC : av_ctx cx) {d N : Nat} (IH : av_Snd cx l d N) (X : Stand p l e R s m args below meth c T locs cells slots) (hexec : p.tables.exec = Jvm.exec) (hW : cx.1.WarmedH T.vm) {g : JFrame} (hg : g.method = m) (hsize : g.locals.size = c.maxLocals) (hmon : g.monitorRoom = 0) (hst : (g.stack.map fun v => v.category).sum ≤ 24) {ig : Instr} {len : Nat} (hdg : decode c.code g.pc = .ok (ig, len))
    {z : Nat} {mk : MethodId} (hz : z < av_nY) (hz0 : z ≠ 0) (hn : T.methodNamed? (av_yn z) = some mk) {as : List Value} {A A' : av_H} {o : av_R} (hrun : av_run N d z as A = some (o, A')) (hrel : av_rel cx A T.heap) (hfr : d + 1 ≤ R.frames) (hlo : 64 * (d + 1) + 3200 ≤ R.locals) (hcc : cells + (A'.1 - A.1) ≤ R.cells) (hss : slots + (A'.2.1 - A.2.1) ≤ R.slots) :
    av_Out cx p l e R s m args below meth c T locs cells slots g len mk (as.map (av_cv cx)).toArray o A' (A'.1 - A.1) (A'.2.1 - A.2.1) := by
  obtain ⟨methk, ck, hmk, hck, hbytes, hml, hret, hlk, hsig, ht1, ht2⟩ := av_found hC hW hz hz0 hn
  obtain ⟨-, hcls, -, -, -, hpl, hmlz, hini⟩ := av_okYs hz
  have hpk : T.plainMethod mk := State.plainMethod.of_named hpl hn hmk
  obtain ⟨Y, hin⟩ := X.into hg hsize hdg (as.map (av_cv cx)).toArray (R' := { frames := R.frames - 1, cells := A'.1 - A.1, slots := A'.2.1 - A.2.1, locals := R.locals - 64 }) hmk hck hlk hpk (by dsimp only; omega) (by dsimp only; rw [hmon, hml]; omega) hcc hss
  have hF : av_Fr cx p (T.calling g mk (as.map (av_cv cx)).toArray) mk methk ck z := by
    refine ⟨hexec, hbytes, hret, hlk, hml, ?_, hW, fun hi => ?_, ht1, ht2, hn⟩
    · rw [← hcls]
      exact findClass_of_methodNamed hn
    · rw [(name_of_methodNamed hn hmk).1]
      exact hini hi
  have hzz : z < 2000 := Nat.lt_of_lt_of_le hz (by decide)
  have hw := IH z as A o A' hzz hrun hF (R := { frames := R.frames - 1, cells := A'.1 - A.1, slots := A'.2.1 - A.2.1, locals := R.locals - 64 }) (below := .java g :: below) (e := e) (by dsimp only; omega) (by dsimp only; omega) T.heap hrel (Nat.le_refl _) (Nat.le_refl _)
  rw [hml] at hin Y
  obtain ⟨t, st, o', h1, h2, h3, h4, h5, L, h6, h7⟩ := hw ((T.setTop g).pushFrame (.java (entryFrame mk (as.map (av_cv cx)).toArray (av_ml z)))) rfl Y
  cases o with
  | inl v =>
    dsimp only at h3
    subst h3
    obtain ⟨T', X', hW', -, ht⟩ := X.outOf hg hdg h2 h5 h6
    refine ⟨T', L, X', ?_, h7, fun acts => ?_⟩
    · have e : t.heap = T'.heap := by rw [ht]; rfl
      rw [← e]; exact h4
    · rw [hin acts, ← ht]
      exact Steps.weaken (mid := [.java g]) st
  | inr q =>
    obtain ⟨a, ha, h3⟩ := h3
    subst h3
    obtain ⟨T', X', hW', -, ht⟩ := X.outOfThrown hg h2 h5 h6
    refine ⟨T', L, X', ?_, h7, a, ha, fun acts => ?_⟩
    · have e : t.heap = T'.heap := by rw [ht]; rfl
      rw [← e]; exact h4
    · rw [hin acts, ← ht]
      exact Steps.weaken (mid := [.java g]) st
end CAL

/-! ===== SOUNDNESS, 11: a lambda's object is called ===== -/
/-- what a method's answer is like -/
def av_rok (y : Nat) (v : Option Value) : Prop := match v with
  | none => av_rt y = 0
  | some w => av_ok (av_rt y) w = true
theorem av_step_rok {α : Type} (P : α → Prop) {bad : α} {go : Nat → av_L → List Value → av_H → α} {ret : Option Value → av_H → α} {thr : Nat → av_H → α} {call : Nat → List Value → av_H → (Option Value → av_H → α) → α} (y : Nat)
    (hb : P bad) (hgo : ∀ pc L S A, P (go pc L S A)) (hret : ∀ v A, av_rok y v → P (ret v A)) (hthr : ∀ q A, P (thr q A)) (hcall : ∀ z as A k, (∀ v A1, P (k v A1)) → P (call z as A k))
    (pc : Nat) (L : av_L) (S : List Value) (A : av_H) (ins : Instr) : P (av_step bad go ret thr call y pc L S A ins) := by
  unfold av_step
  cases ins <;> simp only [av_jmp] <;>
    (repeat' first
      | exact hb
      | exact hgo _ _ _ _
      | exact hthr _ _
      | (refine hcall _ _ _ _ fun v A => hgo _ _ _ _)
      | split)
  all_goals first
    | exact hret _ _ (by show av_ok (av_rt y) _ = true; assumption)
    | (rename_i h; exact hret _ _ (by show av_ok (av_rt y) _ = true; rw [h]; rfl))
    | (rename_i h; exact hret _ _ (by show av_ok (av_rt y) _ = true; rw [h.1]; rfl))
    | (rename_i h; exact hret _ _ (by show av_rt y = 0; exact h))
theorem av_exec_rok {R0 : Nat → List Value → av_H → Option (av_R × av_H)} (y : Nat) : ∀ n pc L S A v A', av_exec R0 y n pc L S A = some (.inl v, A') → av_rok y v := by
  intro n
  induction n with
  | zero => intro pc L S A v A' h; exact absurd h (by simp [av_exec])
  | succ n ih =>
    intro pc L S A v A' h
    rw [av_exec_succ] at h
    cases hf : av_fetch y pc with
    | none => rw [hf] at h; cases h
    | some i =>
      rw [hf] at h
      dsimp only at h
      revert h
      refine av_step_rok (fun (a : Option (av_R × av_H)) => a = some (.inl v, A') → av_rok y v) y (fun h => by cases h) (fun pc L S A h => ih _ _ _ _ _ _ h) (fun w A hw h => by cases h; exact hw) (fun q A => ?_) (fun z as A k hk => ?_) pc L S A i
      · cases av_hnd y pc with
        | none => intro h; cases h
        | some hh =>
          dsimp only
          split
          · exact fun h => ih _ _ _ _ _ _ h
          · intro h; cases h
      · cases hz : R0 z as A with
        | none => intro h; cases h
        | some x =>
          obtain ⟨o1, A1⟩ := x
          cases o1 with
          | inl w => exact fun h => hk w A1 h
          | inr q =>
            dsimp only
            cases av_hnd y pc with
            | none => intro h; cases h
            | some hh =>
              dsimp only
              split
              · exact fun h => ih _ _ _ _ _ _ h
              · intro h; cases h
theorem av_run_rok {N d z : Nat} (hz : z < 2000) {as : List Value} {A A' : av_H} {v : Option Value} (h : av_run N d z as A = some (.inl v, A')) : av_rok z v := by
  cases d with
  | zero => exact absurd h (by simp [av_run])
  | succ d =>
    simp only [av_run] at h
    rw [if_pos hz] at h
    split at h
    · exact av_exec_rok _ _ _ _ _ _ _ _ h
    · cases h
/-- the value of an operand of a lambda's method -/
def lm_val (q : Value) (caps as : List Value) (c : Nat) : Value := if c = 0 then q else if c < 1000 then (caps[c - 1]?).getD .null else (as[c - 1000]?).getD .null
theorem lm_val_ex (q : Value) (caps as : List Value) (hc : caps.length < 900) : (((List.range caps.length).map (· + 1) ++ (List.range as.length).map (· + 1000)).map (lm_val q caps as)) = caps ++ as := by
  rw [List.map_append, List.map_map, List.map_map]
  congr 1
  · apply List.ext_getElem
    · simp
    · intro i h1 h2
      simp only [List.getElem_map, List.getElem_range, Function.comp_apply, lm_val]
      rw [if_neg (by omega), if_pos (by omega)]
      simp [h2]
  · apply List.ext_getElem
    · simp
    · intro i h1 h2
      simp only [List.getElem_map, List.getElem_range, Function.comp_apply, lm_val]
      rw [if_neg (by omega), if_neg (by omega)]
      simp [h2]
/-- the locals of a method whose arguments are no longs -/
theorem lm_args (vs : List Value) (h : ∀ v ∈ vs, ¬ v.category = 2) : ∀ (k i : Nat) (v : Value), vs[i]? = some v → (k + i, v) ∈ lv_args k vs := by
  induction vs with
  | nil => intro k i v hv; simp at hv
  | cons w t ih =>
    intro k i v hv
    simp only [lv_args]
    rw [if_neg (h w (List.mem_cons_self ..))]
    cases i with
    | zero =>
      simp only [List.getElem?_cons_zero, Option.some.injEq] at hv
      subst hv
      exact List.mem_cons_self ..
    | succ i =>
      refine List.mem_cons_of_mem _ ?_
      have := ih (fun v hv => h v (List.mem_cons_of_mem _ hv)) (k + 1) i v (by simpa using hv)
      rw [show k + (i + 1) = k + 1 + i from by omega]
      exact this
theorem lm_sl (vs : List Value) (h : ∀ v ∈ vs, ¬ v.category = 2) : (lg_sl vs).length = vs.length := by
  induction vs with
  | nil => rfl
  | cons w t ih =>
    have := ih (fun v hv => h v (List.mem_cons_of_mem _ hv))
    simp only [lg_sl, List.flatMap_cons, List.length_append] at this ⊢
    rw [if_neg (h w (List.mem_cons_self ..)), this]
    simp [Nat.add_comm]
/-- what is known of the class that was made for site j -/
theorem lm_made {cx : av_X} (C : av_ctx cx) {T : State} (hW : cx.1.WarmedH T.vm) {j : Nat} (hj : j < av_nJ) :
    ∃ (k : Class) (file : ClassFile) (methk : Method) (ck : Code) (tgt : MethodId) (tk : Class), T.vm.classes[cx.2.2.1 j]? = some k ∧ k.name = (av_sh j).1.cls ++ "$$Lambda" ∧ k.cf = some file ∧ file.constantPool = (lm_D j).constantPool ∧
      T.vm.method? ⟨cx.2.2.1 j, 1⟩ = some methk ∧ methk.code = some ck ∧ ck.code = lm_B j ∧ ck.maxLocals = lm_ml j ∧ methk.locks = false ∧ methk.accessFlags = 1 ∧ methk.sig = (av_sh j).2.2.2.sam ∧ ck.exceptionTable = #[] ∧
      T.methodNamed? (av_yn (av_ly j)) = some tgt ∧ T.vm.classes[tgt.cls]? = some tk ∧ tk.isInterface = false ∧ tk.name = (av_sh j).2.2.2.implClass ∧
      (∀ ix, lm_me j ix = true → T.vm.methodReady (cx.2.2.1 j) ix tgt ∧ ∃ ci nt, (lm_D j).constantPool[ix]? = some (.methodref ci nt) ∧ (lm_D j).constantPool.nameAndType? nt = some ((av_sh j).2.2.2.implName, (av_sh j).2.2.2.implDesc.toString) ∧ T.vm.classReady (cx.2.2.1 j) ci tgt.cls) ∧
      (∀ ix i, lm_fi j ix = some i → ∃ f, T.vm.fieldReady (cx.2.2.1 j) ix (cx.2.2.1 j) f ∧ f.isStatic = false ∧ f.slot = i) ∧
      (∀ ix name c, lm_cl j ix name = true → T.vm.findClass name = some c → T.vm.classReady (cx.2.2.1 j) ix c) ∧
      (∀ r0, T.methodFound? (av_sh j).2.2.2.iface (av_sh j).2.2.2.name (av_sh j).2.2.2.sam.toString = some r0 → (∃ nk, T.vm.classes[r0.cls]? = some nk ∧ nk.isInterface = true) → T.vm.findClass (av_sh j).2.2.2.iface = some r0.cls → selectMethod {} T.vm (cx.2.2.1 j) r0 = .method ⟨cx.2.2.1 j, 1⟩ ∧ T.vm.assignable (cx.2.2.1 j) r0.cls = true) ∧
      ((cx.2.2.1 j :: T.vm.superclasses (cx.2.2.1 j)).any fun k => (declaredIn T.vm (av_sh j).2.2.2.name (av_sh j).2.2.2.sam.toString k).any fun (_, x) => x.isPrivate || x.isStatic) = false ∧
      k.instanceTypes.toList.map av_tc = av_lt j := by
  obtain ⟨one, hone, -⟩ := C.2.2.2.2.2.2.2.2.2 _ hj
  obtain ⟨m0, k0, -, -, -, -, hm0, hk0, -, -, -, -, hmade0, hcall0, -⟩ := State.lambdaAt?_spec hone
  have hA := hW.alike
  have hmade := Jvm.Lambda.isMade_warmer hW hmade0
  obtain ⟨k0', hk0', hn0⟩ := className_of_methodNamed hm0
  cases hk0.symm.trans hk0'
  obtain ⟨dk, k, ok, tk, file, cf, object, iface, t, lay, methods, tgt, found, hd, hk, hfile, hcf, hob, hif, hok, hlay, hms, ht, htk, hg, hf, hrec, -, -, -, hitf, hpool, hmeth, hflds, hit, hres, hsel⟩ := Jvm.Lambda.isMade_spec hmade
  have hdn : dk.name = (av_sh j).1.cls := by
    obtain ⟨dk2, hd2, he2⟩ := hA.2.2 _ _ hk0
    cases hd.symm.trans hd2
    rw [he2]
    exact hn0
  have ck0 := lm_ok j hj
  simp only [lm_ck, Bool.and_eq_true, decide_eq_true_eq] at ck0
  obtain ⟨⟨⟨⟨⟨⟨⟨⟨⟨q1, q2⟩, q3⟩, q4⟩, q5⟩, q6⟩, q7⟩, q8⟩, q9⟩, q10⟩ := ck0
  have hl2 := lm_okB
  rw [List.all_eq_true] at hl2
  have hl2 := hl2 j (List.mem_range.mpr hj)
  simp only [lm_ck2, lm_k0, lm_k1, lm_k2, lm_k3, lm_k4, lm_k5, lm_k6, lm_k7, lm_k8, lm_k9, lm_k10, lm_k11, lm_k12, lm_k13, Bool.and_eq_true, decide_eq_true_eq] at hl2
  obtain ⟨⟨⟨⟨⟨⟨⟨⟨⟨⟨⟨⟨⟨r1, r2⟩, r3⟩, r4⟩, r5⟩, r6⟩, r7⟩, r8⟩, r9⟩, r10⟩, r11⟩, r12⟩, r13⟩, r14⟩ := hl2
  rw [hdn] at hcf
  have hD : cf = lm_D j := by unfold lm_D; rw [hcf]; rfl
  subst hD
  -- Object has no fields
  have hobj0 : ok.instanceTypes.size = 0 := by
    have h38 : av_cn 38 = "java/lang/Object" ∧ av_nf 38 = 0 ∧ 38 < av_nK := by decide +kernel
    obtain ⟨hi, -⟩ := av_inC h38.2.2
    have hw := av_wordT C hW hi rfl #[]
    obtain ⟨c1, k1, hc1, hk1, -, -, -, hsz⟩ := Cond.instantiable_spec hw
    rw [h38.1] at hc1
    cases hc1.symm.trans hob
    cases hk1.symm.trans hok
    rw [hsz, h38.2.1]
  rw [hobj0] at hlay
  have hY : lay = lm_Y j := by unfold lm_Y; rw [hlay]; rfl
  subst hY
  obtain ⟨F, hF⟩ := Option.isSome_iff_exists.mp q3
  have hFe : lm_F j = F := by unfold lm_F; rw [hF]; rfl
  have hF1 : methods[1]? = some (lm_F j) := by
    rw [hms] at hF
    rw [hFe]
    exact hF
  obtain ⟨b, hb, hsm⟩ := hmeth 1 _ hF1
  obtain ⟨s1, s2, s3, s4, x, ck, s5, s6, s7, s8, s9, s10⟩ := Jvm.Lambda.sameMethod_spec hsm
  have hB : x.code = lm_B j := by unfold lm_B; rw [s5]; rfl
  have hM : x.maxLocals = lm_ml j := by unfold lm_ml; rw [s5]; rfl
  have htn : tk.name = (av_sh j).2.2.2.implClass := (Vm.findClass_spec ht).elim fun n1 h1 => by
    cases h1.1.symm.trans htk
    exact h1.2
  obtain ⟨mt, hmt⟩ := av_named C hW r2 r3
  have hmt2 := State.methodFound?_of_named hmt (by rw [r1]; exact ⟨r6, r7⟩)
  rw [r1] at hmt2
  have htgt : mt = tgt := by
    simp only [State.methodFound?, ht, htk, Option.bind_eq_bind, Option.bind_some, hg, Except.toOption, Option.some.injEq] at hmt2
    exact hmt2.symm
  subst htgt
  have htc : mt.cls = t := by
    have h1 := findClass_of_methodNamed hmt
    rw [r1] at h1
    exact Option.some.inj (h1.symm.trans ht)
  have hcl : ∀ ix name c, lm_cl j ix name = true → T.vm.findClass name = some c → T.vm.classReady (cx.2.2.1 j) ix c := by
    intro ix name c h hc
    unfold lm_cl at h
    split at h
    · next n hn =>
      simp only [Bool.and_eq_true, decide_eq_true_eq] at h
      exact ⟨k, hk, hres ix _ (Jvm.Lambda.resolvedOf_class hn h.2 h.1 hc)⟩
    · cases h
  refine ⟨k, file, b, ck, mt, tk, hk, by rw [hrec.1, hdn], hfile, hpool.2.1, by simp [Vm.method?, hk, hb], s6, by rw [s9, hB], by rw [s8, hM], ?_, by rw [s4]; exact q5, by rw [s3]; exact q6, s10, hmt, by rw [htc]; exact htk, by rw [hitf]; exact r5, htn, ?_, ?_, hcl, ?_, ?_, ?_⟩
  · simp [Method.locks, Method.isSynchronized, s4, q5, hasFlag, Acc.synchronized]
  · intro ix h
    unfold lm_me at h
    split at h
    · next ci nt hn =>
      simp only [Bool.and_eq_true, decide_eq_true_eq] at h
      refine ⟨⟨k, hk, hres ix _ (Jvm.Lambda.resolvedOf_method hn (cn := (av_sh j).2.2.2.implClass) ?_ ht htk h.2 hg)⟩, ci, nt, hn, h.2, by rw [htc]; exact hcl ci _ _ h.1 ht⟩
      have h1 := h.1
      unfold lm_cl at h1
      split at h1
      · next n hn1 =>
        simp only [Bool.and_eq_true, decide_eq_true_eq] at h1
        simp only [ConstantPool.className?, hn1]
        exact h1.1
      · cases h1
    · cases h
  · intro ix i h
    unfold lm_fi at h
    split at h
    · next nt hn =>
      split at h
      · next nm _ hnt =>
        split at h
        · next i' hi' =>
          split at h
          · next f hf' =>
            split at h
            · next hc =>
              cases h
              exact ⟨f, ⟨k, _, k, hk, hres ix _ (Jvm.Lambda.resolvedOf_field hn hnt hi'), hk, hflds _ _ hf'⟩, hc.1, hc.2⟩
            · cases h
          · cases h
        · cases h
      · cases h
    · cases h
  · intro r0 hr0 hnk hfi
    obtain ⟨nk, hnk, hni⟩ := hnk
    cases hif.symm.trans hfi
    have hfe : found = r0 := by
      simp only [State.methodFound?, hif, hnk, hni, Option.bind_eq_bind, Option.bind_some, hf, Except.toOption, Option.some.injEq] at hr0
      exact hr0
    subst hfe
    refine ⟨hsel, ?_⟩
    obtain ⟨i2, hi2, hasg, -⟩ := State.lambdaCallable_spec hcall0
    rw [hA.assignable]
    have hif0 : cx.1.vm.findClass (av_sh j).2.2.2.iface = some found.cls := by rw [← hA.findClass]; exact hfi
    cases hi2.symm.trans hif0
    exact hasg
  · obtain ⟨i2, -, -, hway⟩ := State.lambdaCallable_spec hcall0
    simp only [hA.superclasses, hA.declaredIn]
    exact hway
  · rw [hit.1]
    have h0 : ok.instanceTypes = #[] := Array.eq_empty_of_size_eq_zero hobj0
    rw [h0]
    simp only [Array.empty_append]
    exact r14
theorem lm_asg (vm : Vm) (c : ClassId) : vm.assignable c c = true := by
  show Vm.assignableAux vm (255 + 1) c c = true
  rw [Vm.assignableAux]
  simp only [beq_self_eq_true, Bool.true_or]
section LMW
variable {p : Program} {l : Launch} {e : Env} {R : Room} {s : State} {m : MethodId} {args : Array Value} {below : List Frame} {meth : Method} {c : Code} {H : Heap} {locs : List Loc} {cells slots : Nat} {Q : State → Prop} {cc : ByteArray} {pc : Nat} {ls : Array Slot} {rest : List Value}
theorem lm_getfield (hexec : p.tables.exec = Jvm.exec) (hb : c.code = cc) {ix i : Nat} {a : Addr} {cell : Cell} {v : Value} (hf : ∀ T : State, s.WarmedH T.vm → ∃ f, T.vm.fieldReady m.cls ix m.cls f ∧ f.isStatic = false ∧ f.slot = i) (hcell : H[a]? = some cell) (hknown : cell.vm ≠ .unknown) (hv : cell.slots[i]? = some v)
    (hdg : decode cc pc = .ok (.getfield ix, 3)) (k : W p l e R s m args below meth c H locs cells slots Q (F0 m (pc + 3) ls (v :: rest))) : W p l e R s m args below meth c H locs cells slots Q (F0 m pc ls (.ref a :: rest)) := by
  intro T hT X
  obtain ⟨t, a1, b1⟩ := k T hT X
  refine ⟨t, ?_, b1⟩
  obtain ⟨f, hf, hst, hsl⟩ := hf T X.warmed
  have hdg' : decode c.code pc = .ok (.getfield ix, 3) := by rw [hb]; exact hdg
  jvm_step X.here [hexec, hdg', getfield.wp_ready (e := e) (s := T) (c := m.cls) (field := f) (a := a) (rest := rest) (cell := cell) (v := v) (f := F0 m pc ls (.ref a :: rest)) X.here.top hf hst rfl (by rw [hT]; exact hcell) hknown (by rw [hsl]; exact hv)]
  exact a1
theorem lm_checkcast (hexec : p.tables.exec = Jvm.exec) (hb : c.code = cc) {ix : Nat} {a : Addr} {cell : Cell} (hf : ∀ T : State, s.WarmedH T.vm → T.vm.classReady m.cls ix cell.cls ∧ ∃ kc, T.vm.classes[cell.cls]? = some kc) (hcell : H[a]? = some cell) (hobj : cell.vm.isStatics = false)
    (hdg : decode cc pc = .ok (.checkcast ix, 3)) (k : W p l e R s m args below meth c H locs cells slots Q (F0 m (pc + 3) ls (.ref a :: rest))) : W p l e R s m args below meth c H locs cells slots Q (F0 m pc ls (.ref a :: rest)) := by
  intro T hT X
  obtain ⟨t, a1, b1⟩ := k T hT X
  refine ⟨t, ?_, b1⟩
  obtain ⟨hf, kc, hkc⟩ := hf T X.warmed
  have hdg' : decode c.code pc = .ok (.checkcast ix, 3) := by rw [hb]; exact hdg
  jvm_step X.here [hexec, hdg', checkcast.wp_ready (e := e) (s := T) (f := F0 m pc ls (.ref a :: rest)) (x := .ref a) (rest := rest) X.here.top hf rfl]
  refine ⟨cell, by rw [hT]; exact hcell, fun z hz => (by rw [hz] at hobj; cases hobj), kc, hkc, kc, hkc, ?_⟩
  rw [if_pos (lm_asg _ _)]
  exact a1
/-- the walk of the method, up to the call -/
theorem lm_walk {cx : av_X} (C : av_ctx cx) (hexec : p.tables.exec = Jvm.exec) {j : Nat} (hj : j < av_nJ) (hb : c.code = lm_B j) (hm : m = ⟨cx.2.2.1 j, 1⟩) (hWs : cx.1.WarmedH s.vm) {q : Addr} {cell : Cell} {caps as : List Value} (hcell : H[q]? = some cell) (hknown : cell.vm ≠ .unknown)
    (hcaps : caps.length = (av_lt j).length ∧ caps.length < 900 ∧ ∀ (i : Nat) (v : Value), caps[i]? = some v → cell.slots[i]? = some v) (hl0 : ls[0]? = some (.val (.ref q))) (hls : ∀ (i : Nat) (v : Value), as[i]? = some v → ls[i + 1]? = some (.val v))
    (hlas : (av_la j).length = as.length) (hty : ∀ (i t : Nat), (av_la j)[i]? = some t → ∃ v : Value, as[i]? = some v ∧ (t = 6 → v = .null ∨ ∃ a, v = .ref a) ∧ (t = 1 → ∃ x, v = .int x))
    (hcast : ∀ k, av_lk j = some k → k < av_nK → ∃ a cell', as[0]? = some (.ref a) ∧ H[a]? = some cell' ∧ cell'.vm.isStatics = false ∧ cell'.cls = cx.2.1.1 k)
    (hfin : ∀ pc i, ((∃ ix, i = .invokestatic ix ∧ (av_sh j).2.2.2.kind = 6 ∧ av_stt (av_ly j) = true ∧ lm_me j ix = true) ∨ (∃ ix, i = .invokevirtual ix ∧ (av_sh j).2.2.2.kind = 5 ∧ (av_lt j)[0]? = some 6 ∧ av_lr j = true ∧ lm_me j ix = true)) → decode (lm_B j) pc = .ok (i, 3) → lm_ret j (pc + 3) = true →
      W p l e R s m args below meth c H locs cells slots Q (F0 m pc ls (caps ++ as).reverse)) :
    ∀ f pc S, lm_go j f pc S = true → W p l e R s m args below meth c H locs cells slots Q (F0 m pc ls (S.map (lm_val (.ref q) caps as))) := by
  intro f
  induction f with
  | zero => intro pc S h; exact absurd h (by simp [lm_go])
  | succ f ih =>
    intro pc S h
    have hmade := fun (T : State) (hT : s.WarmedH T.vm) => lm_made C (hWs.trans hT) hj
    have hval : ∀ (i : Nat) (v : Value), as[i]? = some v → lm_val (.ref q) caps as (i + 1000) = v := by
      intro i v hv
      simp only [lm_val]
      rw [if_neg (by omega), if_neg (by omega), Nat.add_sub_cancel, hv]
      rfl
    simp only [lm_go] at h
    split at h
    · next k hd =>
      split at h
      · next hk =>
        have hw := ih _ _ h
        refine av_w_aload_n hexec hb hd (w := .ref q) (by rw [hk]; exact hl0) (Or.inr ⟨q, rfl⟩) ?_
        exact hw
      · next hk =>
        simp only [Bool.and_eq_true, decide_eq_true_eq] at h
        obtain ⟨v, hv, h6, -⟩ := hty _ _ h.1
        have hw := ih _ _ h.2
        have e1 : (k : Nat) + 999 = ((k : Nat) - 1) + 1000 := by omega
        rw [List.map_cons, e1, hval _ _ hv] at hw
        refine av_w_aload_n hexec hb hd (w := v) ?_ (h6 rfl) hw
        have := hls _ _ hv
        rw [show (k : Nat) - 1 + 1 = (k : Nat) from by omega] at this
        exact this
    · next k hd =>
      simp only [Bool.and_eq_true, decide_eq_true_eq] at h
      obtain ⟨⟨hk, h1⟩, h2⟩ := h
      obtain ⟨v, hv, -, h6⟩ := hty _ _ h1
      obtain ⟨x, rfl⟩ := h6 rfl
      have hw := ih _ _ h2
      have e1 : (k : Nat) + 999 = ((k : Nat) - 1) + 1000 := by omega
      rw [List.map_cons, e1, hval _ _ hv] at hw
      have := hls _ _ hv
      rw [show (k : Nat) - 1 + 1 = (k : Nat) from by omega] at this
      exact lv_iload_n hexec hb hd rfl this hw
    · next ix hd =>
      split at h
      · next S =>
        split at h
        · next i hi =>
          simp only [Bool.and_eq_true, decide_eq_true_eq] at h
          have hw := ih _ _ h.2
          have hil : i < caps.length := by rw [hcaps.1]; exact h.1
          have hv : caps[i]? = some caps[i] := List.getElem?_eq_getElem hil
          have e1 : lm_val (.ref q) caps as (i + 1) = caps[i] := by
            simp only [lm_val]
            rw [if_neg (by omega), if_pos (by have := hcaps.2.1; omega), Nat.add_sub_cancel, hv]
            rfl
          rw [List.map_cons, e1] at hw
          subst hm
          refine lm_getfield hexec hb (fun T hT => ?_) hcell hknown (hcaps.2.2 _ _ hv) hd hw
          obtain ⟨k, file, methk, ck, tgt, tk, -, -, -, -, -, -, -, -, -, -, -, -, -, -, -, -, -, g, -⟩ := hmade T hT
          exact g _ _ hi
        · cases h
      · cases h
    · next ix hd =>
      split at h
      · next S k hk =>
        simp only [Bool.and_eq_true, decide_eq_true_eq] at h
        obtain ⟨⟨h0, h1⟩, h2⟩ := h
        obtain ⟨a, cell', g1, g2, g3, g4⟩ := hcast k hk h0
        have hw := ih _ _ h2
        have e1 : lm_val (.ref q) caps as 1000 = .ref a := hval 0 _ g1
        rw [List.map_cons, e1] at hw ⊢
        subst hm
        refine lm_checkcast hexec hb (fun T hT => ?_) g2 g3 hd hw
        obtain ⟨k, file, methk, ck, tgt, tk, -, -, -, -, -, -, -, -, -, -, -, -, -, -, -, -, -, -, g, -⟩ := hmade T hT
        obtain ⟨-, hfc, kC, hkC, -⟩ := av_kn C (hWs.trans hT) h0
        rw [g4]
        exact ⟨g _ _ _ h1 hfc, kC, hkC⟩
      · cases h
    · next ix hd =>
      simp only [Bool.and_eq_true, decide_eq_true_eq, beq_iff_eq] at h
      obtain ⟨⟨⟨⟨h1, h2⟩, h3⟩, h4⟩, h5⟩ := h
      have e1 : S.map (lm_val (.ref q) caps as) = (caps ++ as).reverse := by
        rw [h3]
        unfold lm_ex
        rw [List.map_reverse, ← hcaps.1, ← lm_val_ex (.ref q) caps as hcaps.2.1, hlas]
      rw [e1]
      exact hfin _ _ (Or.inl ⟨ix, rfl, h1, h5, h2⟩) hd h4
    · next ix hd =>
      simp only [Bool.and_eq_true, decide_eq_true_eq, beq_iff_eq] at h
      obtain ⟨⟨⟨⟨⟨h1, h2⟩, h3⟩, h4⟩, h5⟩, h6⟩ := h
      have e1 : S.map (lm_val (.ref q) caps as) = (caps ++ as).reverse := by
        rw [h3]
        unfold lm_ex
        rw [List.map_reverse, ← hcaps.1, ← lm_val_ex (.ref q) caps as hcaps.2.1, hlas]
      rw [e1]
      exact hfin _ _ (Or.inr ⟨ix, rfl, h1, h5, h6, h2⟩) hd h4
    · cases h
/-- the method's return -/
theorem lm_retW {cx : av_X} (hexec : p.tables.exec = Jvm.exec) {j : Nat} (hb : c.code = lm_B j) (hsig : meth.sig = (av_sh j).2.2.2.sam) (hlocks : meth.locks = false) (hret : lm_ret j pc = true) {v : Option Value} (hv : av_rok (av_ly j) v) {A : av_H} (hrel : av_rel cx A H) {kc ks : Nat} (hc : cells ≤ kc) (hs : slots ≤ ks) (hL : ∀ z ∈ locs, cx.1.heap.size ≤ z.base) :
    W p l e R s m args below meth c H locs cells slots (av_Q cx s below (.inl v) A kc ks) (F0 m pc ls (v.map (av_cv cx)).toList) := by
  unfold lm_ret at hret
  split at hret
  · next hd hr =>
    rw [beq_iff_eq] at hret
    cases v with
    | none => simp [av_rok, hret] at hv
    | some w =>
      simp only [av_rok, hret] at hv
      have hfit := (av_ok_fit (cx := cx) (ty := .int) hv).1
      cases w <;> simp [av_ok] at hv
      exact av_done (v := some (.int _)) hrel hc hs rfl (W.zret hexec hb (by rw [hsig]; exact hr) hfit (fun t ht _ => ⟨rfl, ht⟩) hL hd hlocks)
  · next hd hr =>
    rw [beq_iff_eq] at hret
    cases v with
    | none => simp [av_rok, hret] at hv
    | some w =>
      simp only [av_rok, hret] at hv
      have hfit := (av_ok_fit (cx := cx) (ty := .boolean) hv).1
      cases w <;> simp [av_ok] at hv
      exact av_done (v := some (.int _)) hrel hc hs rfl (W.zret hexec hb (by rw [hsig]; exact hr) hfit (fun t ht _ => ⟨rfl, ht⟩) hL hd hlocks)
  · next n hd hr =>
    rw [beq_iff_eq] at hret
    cases v with
    | none => simp [av_rok, hret] at hv
    | some w =>
      simp only [av_rok, hret] at hv
      have hw : av_cv cx w = .null ∨ ∃ q, av_cv cx w = .ref q := by
        cases w <;> simp [av_ok] at hv
        · exact Or.inl rfl
        · exact av_sg_cases cx _
      exact av_done (v := some w) hrel hc hs rfl (W.aret hexec hb (by rw [hsig]; exact hr) (Or.inl ⟨_, rfl⟩) hw (fun t ht _ => ⟨rfl, ht⟩) hL hd hlocks)
  · next hd hr =>
    rw [beq_iff_eq] at hret
    cases v with
    | none => exact av_done (v := none) hrel hc hs rfl (W.vret hexec hb (by rw [hsig]; exact hr) (fun t ht _ => ⟨rfl, ht⟩) hL hd hlocks)
    | some w =>
      simp only [av_rok, hret] at hv
      simp [av_ok] at hv
  · cases hret
end LMW
theorem av_inPL {j : Nat} (hj : j < av_nJ) (hk : (av_sh j).2.2.2.kind = 5) : Cond.privateMethod (av_yn (av_ly j)) ∈ lw_tbl ∧ Cond.instanceMethod (av_yn (av_ly j)) ∈ lw_tbl := by
  have hj : j < 44 := hj
  have hl : j < av_wPL.length := by rw [av_okPL.2]; exact hj
  have hz : ((List.range 44).zip av_wPL)[j]? = some (j, av_wPL[j]) := by
    rw [List.getElem?_zip_eq_some]
    exact ⟨List.getElem?_range hj, List.getElem?_eq_getElem hl⟩
  have h := av_okPL.1
  rw [List.all_eq_true] at h
  have h := h _ (List.mem_of_getElem? hz)
  dsimp only at h
  split at h
  · simp only [Bool.and_eq_true, decide_eq_true_eq] at h
    exact ⟨av_is_in h.1.1, av_is_in h.1.2⟩
  · rw [decide_eq_true_eq, hk] at h
    cases h
section CAL
variable {cx : av_X} {p : Program} {l : Launch} {e : Env} {R : Room} {s : State} {m : MethodId} {args : Array Value} {below : List Frame} {meth : Method} {c : Code} {T : State} {locs : List Loc} {cells slots : Nat}
theorem av_callL (C : av_ctx cx) {d N : Nat} (IH : av_Snd cx l d N) (X : Stand p l e R s m args below meth c T locs cells slots) (hexec : p.tables.exec = Jvm.exec) (hW : cx.1.WarmedH T.vm) {g : JFrame} (hg : g.method = m) (hsize : g.locals.size = c.maxLocals) (hmon : g.monitorRoom = 0) (hst : (g.stack.map fun v => v.category).sum ≤ 24) {ig : Instr} {len : Nat} (hdg : decode c.code g.pc = .ok (ig, len))
    {j b : Nat} (hj : j < av_nJ) {q : Addr} (hq : av_sg cx b = .ref q) {as : List Value} {A A' : av_H} {o : av_R} (hrun : av_run N (d + 1) (2000 + j) (.ref b :: as) A = some (o, A')) (hrel : av_rel cx A T.heap) (hfr : d + 2 ≤ R.frames) (hlo : 64 * (d + 2) + 3200 ≤ R.locals) (hcc : cells + (A'.1 - A.1) ≤ R.cells) (hss : slots + (A'.2.1 - A.2.1) ≤ R.slots) :
    av_Out cx p l e R s m args below meth c T locs cells slots g len ⟨cx.2.2.1 j, 1⟩ ((Value.ref b :: as).map (av_cv cx)).toArray o A' (A'.1 - A.1) (A'.2.1 - A.2.1) := by
  have e2000 : 2000 + j - 2000 = j := by omega
  simp only [av_run, e2000] at hrun
  rw [if_neg (by omega)] at hrun
  split at hrun
  · next k f hc =>
    split at hrun
    · next hk =>
      subst hk
      split at hrun
      · next hlq =>
        have hck := lm_ok j hj
        simp only [lm_ck, Bool.and_eq_true, decide_eq_true_eq] at hck
        obtain ⟨⟨⟨⟨⟨⟨⟨⟨⟨-, -⟩, -⟩, -⟩, -⟩, -⟩, q7⟩, q8⟩, q9⟩, q10⟩ := hck
        have hl2 := lm_okB
        rw [List.all_eq_true] at hl2
        have hl2 := hl2 j (List.mem_range.mpr hj)
        simp only [lm_ck2, lm_k0, lm_k1, lm_k2, lm_k3, lm_k4, lm_k5, lm_k6, lm_k7, lm_k8, lm_k9, lm_k10, lm_k11, lm_k12, lm_k13, Bool.and_eq_true, decide_eq_true_eq, List.all_eq_true] at hl2
        obtain ⟨⟨⟨⟨⟨⟨⟨⟨⟨⟨⟨⟨⟨r1, r2⟩, r3⟩, r4⟩, r5⟩, r6⟩, r7⟩, r8⟩, r9⟩, r10⟩, r11⟩, r12⟩, r13⟩, r14⟩ := hl2
        obtain ⟨k, file, methk, ck, tgt, tk, hk, hkn, hfile, hpool, hmk, hck, hbytes, hml, hlk, hacc, hsig, hexc, -⟩ := lm_made C hW hj
        have hpk : T.plainMethod ⟨cx.2.2.1 j, 1⟩ := State.plainMethod.of_name (fun k' hk' => by cases hk.symm.trans hk'; rw [hkn]; exact q9)
        obtain ⟨Y, hin⟩ := X.into hg hsize hdg ((Value.ref b :: as).map (av_cv cx)).toArray (R' := { frames := R.frames - 1, cells := A'.1 - A.1, slots := A'.2.1 - A.2.1, locals := R.locals - 64 }) hmk hck hlk hpk (by dsimp only; omega) (by dsimp only; rw [hmon, hml]; omega) hcc hss
        obtain ⟨q', hq', cell, h1, h2, h3, h4, h5, h6⟩ := hrel.at hc
        cases hq.symm.trans hq'
        obtain ⟨-, hvm, hcls, hslots⟩ := h6 (by omega)
        rw [show 100 + j - 100 = j from by omega] at hcls hslots
        -- the arguments
        simp only [av_lq, Bool.and_eq_true, beq_iff_eq] at hlq
        obtain ⟨⟨⟨hrcv, hlen⟩, hoks⟩, hcst⟩ := hlq
        have hok : ∀ (i t : Nat), (av_la j)[i]? = some t → ∃ v : Value, as[i]? = some v ∧ av_ok t v = true := by
          intro i t ht
          have hil : i < as.length := by rw [hlen]; exact (List.getElem?_eq_some_iff.mp ht).1
          refine ⟨as[i], List.getElem?_eq_getElem hil, ?_⟩
          rw [List.all_eq_true] at hoks
          refine hoks _ (List.mem_of_getElem? (i := i) ?_)
          rw [List.getElem?_zipWith, ht, List.getElem?_eq_getElem hil]
          rfl
        have hcat : ∀ v ∈ (Value.ref b :: as).map (av_cv cx), ¬ v.category = 2 := by
          intro v hv
          obtain ⟨w, hw, rfl⟩ := List.mem_map.mp hv
          rw [av_cat]
          rcases List.mem_cons.mp hw with rfl | hw
          · exact (by decide : ¬ (1 : Nat) = 2)
          · obtain ⟨i, hi⟩ := List.getElem?_of_mem hw
            have hil : i < (av_la j).length := by rw [← hlen]; exact (List.getElem?_eq_some_iff.mp hi).1
            obtain ⟨v', hv', hok'⟩ := hok i _ (List.getElem?_eq_getElem hil)
            cases hi.symm.trans hv'
            have h5' := r13 _ (List.getElem_mem hil)
            generalize (av_la j)[i] = t at hok' h5'
            intro hcat
            cases w <;> simp [Value.category] at hcat
            all_goals
              revert hok'
              match t with
              | 0 | 1 | 2 | 3 | 4 | 6 | t + 7 => simp [av_ok]
              | 5 => exact absurd rfl h5'
        have hrunI : av_run N d (av_ly j) ((List.range (av_lt j).length).map f ++ as) A = some (o, A') := hrun
        have hcaps : (((List.range (av_lt j).length).map f).map (av_cv cx)).length = (av_lt j).length := by simp
        have hlt9 : (av_lt j).length < 900 := by
          have : (List.range 44).all (fun j => decide ((av_lt j).length < 900)) = true := by decide +kernel
          rw [List.all_eq_true] at this
          exact of_decide_eq_true (this j (List.mem_range.mpr hj))
        have hWi : W p l e { frames := R.frames - 1, cells := A'.1 - A.1, slots := A'.2.1 - A.2.1, locals := R.locals - 64 } (T.calling g ⟨cx.2.2.1 j, 1⟩ ((Value.ref b :: as).map (av_cv cx)).toArray) ⟨cx.2.2.1 j, 1⟩ ((Value.ref b :: as).map (av_cv cx)).toArray (.java g :: below) methk ck T.heap [] 0 0
            (av_Q cx (T.calling g ⟨cx.2.2.1 j, 1⟩ ((Value.ref b :: as).map (av_cv cx)).toArray) (.java g :: below) o A' (A'.1 - A.1) (A'.2.1 - A.2.1)) (entryFrame ⟨cx.2.2.1 j, 1⟩ ((Value.ref b :: as).map (av_cv cx)).toArray ck.maxLocals) := by
          rw [lg_entry_eq]
          have hl := lv_entry ((Value.ref b :: as).map (av_cv cx)) (n := ck.maxLocals) (by rw [lm_sl _ hcat, hml, List.length_map, List.length_cons]; omega)
          have hls := fun i v h => hl.2.2 (i, v) (lm_args _ hcat 0 i v h |> fun h => by rw [Nat.zero_add] at h; exact h)
          generalize (lg_sl ((Value.ref b :: as).map (av_cv cx)) ++ List.replicate (ck.maxLocals - (lg_sl ((Value.ref b :: as).map (av_cv cx))).length) Slot.unset).toArray = ls at hl hls ⊢
          change W _ _ _ _ _ _ _ _ _ _ _ _ _ _ _ (F0 _ 0 ls (([] : List Nat).map (lm_val (.ref q) (((List.range (av_lt j).length).map f).map (av_cv cx)) (as.map (av_cv cx)))))
          refine lm_walk (caps := ((List.range (av_lt j).length).map f).map (av_cv cx)) (as := as.map (av_cv cx)) C hexec hj hbytes rfl (show cx.1.WarmedH (T.calling g ⟨cx.2.2.1 j, 1⟩ ((Value.ref b :: as).map (av_cv cx)).toArray).vm from hW) h1 (by rw [hvm]; exact fun h => by cases h) ⟨hcaps, by rw [hcaps]; exact hlt9, fun i v hv => ?_⟩ (hls 0 _ (by rw [← hq]; rfl)) (fun i v hv => hls (i + 1) v (by simpa using hv)) (by rw [List.length_map]; exact hlen.symm) (fun i t ht => ?_) (fun k hk hkN => ?_) (fun pc i hi hd hret => ?_) 32 0 [] q10
          · have hil : i < (av_lt j).length := by rw [← hcaps]; exact (List.getElem?_eq_some_iff.mp hv).1
            rw [hslots i hil]
            rw [List.getElem?_map, List.getElem?_map, List.getElem?_range hil] at hv
            exact hv
          · obtain ⟨v, hv, hok'⟩ := hok i t ht
            refine ⟨av_cv cx v, by rw [List.getElem?_map, hv]; rfl, fun h => ?_, fun h => ?_⟩
            · subst h
              cases v <;> simp [av_ok] at hok'
              · exact Or.inl rfl
              · exact av_sg_cases cx _
            · subst h
              cases v <;> simp [av_ok] at hok'
              exact ⟨_, rfl⟩
          · rw [hk] at hcst
            dsimp only at hcst
            split at hcst
            · next a as' =>
              split at hcst
              · next ob hob =>
                obtain ⟨k0, f0⟩ := ob
                rw [beq_iff_eq] at hcst
                dsimp only at hcst
                subst hcst
                obtain ⟨q0, hq0, cell0, g1, g2, g3, g4, g5, -⟩ := hrel.at hob
                have hk100 : k0 < 100 := Nat.lt_of_lt_of_le hkN (by decide)
                exact ⟨q0, cell0, by simp only [List.map_cons, List.getElem?_cons_zero]; rw [← hq0]; rfl, g1, g2, (g5 hk100).2.1⟩
              · cases hcst
            · cases hcst
          · intro U hU Y'
            have hWU : cx.1.WarmedH U.vm := State.WarmedH.trans (show cx.1.WarmedH (T.calling g ⟨cx.2.2.1 j, 1⟩ ((Value.ref b :: as).map (av_cv cx)).toArray).vm from hW) Y'.warmed
            obtain ⟨k, file, -, -, tgt, tk, hk, -, hfile, hpool, -, -, -, -, -, -, -, -, hnamed, htk, htki, htkn, hme, -⟩ := lm_made C hWU hj
            obtain ⟨methT, cT, hmT, -, -, -, -, -, hsigT, -⟩ := av_found C hWU r2 r3 hnamed
            have hlenA : (((List.range (av_lt j).length).map f).map (av_cv cx) ++ as.map (av_cv cx)).length = (av_lt j).length + (av_la j).length := by rw [List.length_append, hcaps, List.length_map, hlen]
            have hpoly : signaturePolymorphic tk methT = false := by simp [signaturePolymorphic, htkn, r6, r7]
            have hpl : (parseMethodDescriptor (av_yn (av_ly j)).desc).map (fun d => d.parameters.length) = some (av_na (av_ly j)) := (av_okYs r2).2.2.2.2.1
            have hplen : av_na (av_ly j) = methT.sig.parameters.length := av_plen r2 _ hsigT
            have out := av_callZ C IH Y' hexec hWU (g := F0 ⟨cx.2.2.1 j, 1⟩ pc ls []) rfl hl.1 rfl (by simp [F0]) (by rw [hbytes]; exact hd) r2 r3 hnamed hrunI (by rw [hU]; exact hrel) (by dsimp only; omega) (by dsimp only; omega) (by dsimp only; omega) (by dsimp only; omega)
            have key : ∀ V : List Value, V = ((List.range (av_lt j).length).map f).map (av_cv cx) ++ as.map (av_cv cx) → ∀ target, (∀ acts, Steps p.tables e (.java g :: below) (doInvoke e (U.setTop (F0 ⟨cx.2.2.1 j, 1⟩ pc ls [])) acts tgt V.toArray).1 target) → Steps p.tables e (.java g :: below) (U.setTop (F0 ⟨cx.2.2.1 j, 1⟩ pc ls V.reverse)) target := by
              intro V hV target hrest
              rw [← hV] at hlenA
              generalize hS : V.reverse = st
              have hdu : decode ck.code pc = .ok (i, 3) := by rw [hbytes]; exact hd
              rcases hi with ⟨ix, rfl, hkind, hstt, hm⟩ | ⟨ix, rfl, hkind, hl0, hlr, hm⟩
              · obtain ⟨hready, ci, nt, hcp, hnt, hcr⟩ := hme _ hm
                obtain ⟨bb, hask⟩ := memberRef_ask' (e := e) (vm := U.vm) (d := cx.2.2.1 j) (index := ix) hk hfile (Or.inl (by rw [hpool]; exact hcp)) (by rw [hpool]; exact hnt)
                obtain ⟨-, -, hsw⟩ := av_inSt hstt
                have hstat : methT.isStatic = true := Cond.static_spec hnamed hmT (av_wordT C hWU hsw rfl #[])
                obtain ⟨kP, hkP, hkI⟩ := av_initd C hWU r2 hnamed
                cases htk.symm.trans hkP
                have hnp : (tk.methods.any fun y => y.name == (av_sh j).2.2.2.implName && !y.isStatic && signaturePolymorphic tk y) = false := by
                  simp [signaturePolymorphic, htkn, r6, r7]
                rw [if_neg (by rw [hkind]; decide)] at r10
                jvm_step Y'.here [hexec, hdu, invokestatic.wp_ready (e := e) (s := U) (m := tgt) (k := tk) (meth := methT) (args := V) (rest := [])
                  (f := F0 ⟨cx.2.2.1 j, 1⟩ pc ls st) Y'.here.top ⟨ci, _, _, bb, tgt.cls, tk, hask, hcr, htk, hnp⟩ hready htk hmT hpoly hstat hkI (by rw [hlenA, ← hplen]; omega) (by show st = V.reverse ++ []; rw [← hS, List.append_nil])]
                exact fun acts => hrest _
              · obtain ⟨hready, ci, nt, hcp, hnt, hcr⟩ := hme _ hm
                -- the receiver
                have hrc : ∃ (b0 : Nat) (ob : Nat × (Nat → Value)), f 0 = .ref b0 ∧ A.2.2 b0 = some (.inl ob) := by
                  rw [hlr] at hrcv
                  simp only [Bool.not_true, Bool.false_or] at hrcv
                  split at hrcv
                  · next b0 hb0 =>
                    split at hrcv
                    · next ob hob => exact ⟨b0, ob, hb0, hob⟩
                    · cases hrcv
                  · cases hrcv
                obtain ⟨b0, ob, hb0, hob⟩ := hrc
                obtain ⟨q0, hq0, cell0, g1, g2, g3, g4, g5⟩ := hrel.at hob
                have hcp5 : ∃ caps', ((List.range (av_lt j).length).map f).map (av_cv cx) = .ref q0 :: caps' := by
                  cases hlt : av_lt j with
                  | nil => rw [hlt] at hl0; cases hl0
                  | cons x xs =>
                    refine ⟨((List.map Nat.succ (List.range xs.length)).map f).map (av_cv cx), ?_⟩
                    rw [List.length_cons, List.range_succ_eq_map, List.map_cons, List.map_cons, hb0]
                    rw [show av_cv cx (.ref b0) = av_sg cx b0 from rfl, hq0]
                obtain ⟨caps', hcaps'⟩ := hcp5
                obtain ⟨w1, w2⟩ := av_inPL hj hkind
                obtain ⟨mk2, methM2, hn2, hm2, hstM, habM⟩ := Cond.instanceMethod_spec (av_wordT C hWU w2 rfl #[])
                cases hn2.symm.trans hnamed
                cases hm2.symm.trans hmT
                have hpriv : methT.isPrivate = true := by
                  obtain ⟨A0, hA0⟩ := C.1
                  have h0 := Cond.privateMethod_at (hA0 _ w1)
                  have hn0 : cx.1.methodNamed? (av_yn (av_ly j)) = some tgt := by
                    have := State.methodNamed?_setVm (s := cx.1) hWU.alike (av_yn (av_ly j))
                    rw [← this]
                    exact hnamed
                  exact h0 tgt methT hn0 (by rw [← hWU.alike.method?]; exact hmT)
                rw [if_pos hkind] at r10
                have hV2 : V = .ref q0 :: (caps' ++ as.map (av_cv cx)) := by rw [hV, hcaps']; rfl
                subst hV2
                rw [List.length_cons] at hlenA
                jvm_step Y'.here [hexec, hdu, invokevirtual.wp_ready (e := e) (s := U) (r := tgt) (m := tgt) (k := tk) (mk := tk) (rmeth := methT) (meth := methT) (a := q0) (args := caps' ++ as.map (av_cv cx)) (rest := []) (cell := cell0)
                  (f := F0 ⟨cx.2.2.1 j, 1⟩ pc ls st) Y'.here.top ⟨k, file, ci, nt, tgt.cls, tk, hk, hfile, by rw [hpool]; exact hcp, hcr, htk, htki⟩ hready htk hmT hpoly hstM (by rw [← hplen]; omega) (by show st = (caps' ++ as.map (av_cv cx)).reverse ++ .ref q0 :: []; rw [← hS, List.reverse_cons]) (by rw [hU]; exact g1) (fun z hz => by rw [hz] at g2; cases g2)
                  (selectMethod_private hmT hpriv) hmT habM htk htki]
                exact hrest
            obtain ⟨T', L', X', hrel', hL', hout⟩ := out
            cases o with
            | inl v =>
              have hrok := av_run_rok (Nat.lt_of_lt_of_le r2 (by decide)) hrunI
              obtain ⟨t, a1, b1⟩ := lm_retW (cx := cx) (A := A') (kc := A'.1 - A.1) (ks := A'.2.1 - A.2.1) (pc := pc + 3) (ls := ls) hexec hbytes hsig hlk hret hrok hrel' (by omega) (by omega) (by intro z hz; exact hL' z (by simpa using hz)) T' rfl X'
              refine ⟨t, key _ rfl _ (fun acts => ?_), b1⟩
              have h9 := hout acts
              rw [List.map_append] at h9
              refine h9.trans ?_
              cases v <;> exact a1
            | inr qx =>
              obtain ⟨a, ha, hout⟩ := hout
              obtain ⟨st1, hrun1, hend1, hW1, hsm1⟩ := X'.leaveThrown a (g := F0 ⟨cx.2.2.1 j, 1⟩ pc ls []) rfl rfl rfl (fun x hx => by rw [hexc] at hx; cases hx) hlk
              exact ⟨_, key _ rfl _ (fun acts => by have h9 := hout acts; rw [List.map_append] at h9; exact h9.trans st1), .threw a, hrun1, hend1, ⟨a, ha, rfl⟩, hrel', hW1, _, hsm1.mono (by omega) (by omega), by intro z hz; exact hL' z (by simpa using hz)⟩
        obtain ⟨t, st, o', h1, h2, h3, h4, h5, L, h6, h7⟩ := hWi ((T.setTop g).pushFrame (.java (entryFrame ⟨cx.2.2.1 j, 1⟩ ((Value.ref b :: as).map (av_cv cx)).toArray ck.maxLocals))) rfl Y
        cases o with
        | inl v =>
          dsimp only at h3
          subst h3
          obtain ⟨T', X', hW', -, ht⟩ := X.outOf hg hdg h2 h5 h6
          refine ⟨T', L, X', ?_, h7, fun acts => ?_⟩
          · have e : t.heap = T'.heap := by rw [ht]; rfl
            rw [← e]; exact h4
          · rw [hin acts, ← ht]
            exact Steps.weaken (mid := [.java g]) st
        | inr q =>
          obtain ⟨a, ha, h3⟩ := h3
          subst h3
          obtain ⟨T', X', hW', -, ht⟩ := X.outOfThrown hg h2 h5 h6
          refine ⟨T', L, X', ?_, h7, a, ha, fun acts => ?_⟩
          · have e : t.heap = T'.heap := by rw [ht]; rfl
            rw [← e]; exact h4
          · rw [hin acts, ← ht]
            exact Steps.weaken (mid := [.java g]) st
      · cases hrun
    · cases hrun
  · cases hrun
end CAL

/-! ===== SOUNDNESS, 13: lambdas are made, casts, compares, arrays of references, copies ===== -/
theorem lm_narrow : ∀ (ts : List FieldType) (vs : List Value), ts.length = vs.length → (∀ (i : Nat) (t : FieldType) (v : Value), ts[i]? = some t → vs[i]? = some v → narrow t v = v) → (ts.zip vs).map (fun (t, v) => narrow t v) = vs := by
  intro ts
  induction ts with
  | nil => intro vs h _; cases vs with
    | nil => rfl
    | cons v vs => cases h
  | cons t ts ih =>
    intro vs h hn
    cases vs with
    | nil => cases h
    | cons v vs =>
      simp only [List.zip_cons_cons, List.map_cons]
      rw [hn 0 t v rfl rfl, ih vs (by simpa using h) (fun i t v h1 h2 => hn (i + 1) t v (by simpa using h1) (by simpa using h2))]
/-- the descriptor of a site of the metafactory -/
theorem lm_shape {cf : ClassFile} {ix : Nat} {σ : Jvm.Lambda.Shape} (h : Jvm.Lambda.shapeOf? cf ix = some σ) : ∃ bsm nt name desc sig, cf.constantPool[ix]? = some (.invokeDynamic bsm nt) ∧ cf.constantPool.nameAndType? nt = some (name, desc) ∧ parseLongMethodDescriptor desc = some sig ∧ sig.parameters = σ.captured := by
  unfold Jvm.Lambda.shapeOf? at h
  split at h
  · next b nt hcp =>
    obtain ⟨entries, -, h⟩ := Option.bind_eq_some_iff.mp h
    obtain ⟨bm, -, h⟩ := Option.bind_eq_some_iff.mp h
    split at h
    · obtain ⟨-, -, h⟩ := Option.bind_eq_some_iff.mp h
      generalize bm.bootstrapArguments = ba at h
      obtain ⟨l⟩ := ba
      have fin : ∀ {a0 a1 a2 : Nat}, (match cf.constantPool[a0]? with
          | some (.methodType d0) => (match cf.constantPool[a1]? with
            | some (.methodHandle kind r1) => (match cf.constantPool[a2]? with
              | some (.methodType d2) => (cf.constantPool.nameAndType? nt).bind fun (name, desc) => (parseMethodDescriptor desc).bind fun site => (match site.returnType with
                | some (.object iface) => (Jvm.Lambda.memberOf? cf.constantPool r1).bind fun (implClass, implName, implDesc, implItf) => (cf.constantPool.string? d0).bind fun x0 => (parseMethodDescriptor x0).bind fun x1 => (parseMethodDescriptor implDesc).bind fun x2 => (cf.constantPool.string? d2).bind fun x3 => (parseMethodDescriptor x3).bind fun x4 =>
                    some ({ iface, name, sam := x1, captured := site.parameters, kind, implClass, implName, implDesc := x2, implItf, inst := x4 } : Jvm.Lambda.Shape)
                | _ => none)
              | _ => none)
            | _ => none)
          | _ => none) = some σ → ∃ name desc sig, cf.constantPool.nameAndType? nt = some (name, desc) ∧ parseLongMethodDescriptor desc = some sig ∧ sig.parameters = σ.captured := by
        intro a0 a1 a2 h
        split at h
        · split at h
          · split at h
            · simp only [Option.bind_eq_some_iff] at h
              obtain ⟨⟨name, desc⟩, hnt, site, hsite, h⟩ := h
              dsimp only at h
              split at h
              · simp only [Option.bind_eq_some_iff] at h
                obtain ⟨w1, -, x0, -, x1, -, x2, -, x3, -, x4, -, h⟩ := h
                cases h
                exact ⟨name, desc, site, hnt, parseLong_of_parse hsite, rfl⟩
              · cases h
            · cases h
          · cases h
        · cases h
      match l, h with
      | [a0, a1, a2], h =>
        obtain ⟨name, desc, sig, g1, g2, g3⟩ := fin (a0 := a0) (a1 := a1) (a2 := a2) h
        exact ⟨b, nt, name, desc, sig, hcp, g1, g2, g3⟩
      | [], h => exact absurd (show (none : Option Jvm.Lambda.Shape) = some σ from h) (by simp)
      | [_], h => exact absurd (show (none : Option Jvm.Lambda.Shape) = some σ from h) (by simp)
      | [_, _], h => exact absurd (show (none : Option Jvm.Lambda.Shape) = some σ from h) (by simp)
      | _ :: _ :: _ :: _ :: _, h => exact absurd (show (none : Option Jvm.Lambda.Shape) = some σ from h) (by simp)
    · cases h
  · cases h
/-- the made class is an ordinary one -/
theorem lm_kind {cx : av_X} (C : av_ctx cx) {s : State} (hW : cx.1.WarmedH s.vm) {j : Nat} (hj : j < av_nJ) {k : Class} (hk : s.vm.classes[cx.2.2.1 j]? = some k) : k.kind = .ordinary := by
  obtain ⟨one, hone, -⟩ := C.2.2.2.2.2.2.2.2.2 _ hj
  obtain ⟨m0, k0, cf0, i0, p0, l0, -, -, -, -, -, -, hmade0, -, -⟩ := State.lambdaAt?_spec hone
  have hmade := Jvm.Lambda.isMade_warmer hW hmade0
  obtain ⟨dk, k2, ok, tk, file, cf, object, iface, t, lay, methods, tgt, found, -, hk2, -, -, -, -, -, -, -, -, -, -, -, hrec, -⟩ := Jvm.Lambda.isMade_spec hmade
  cases hk.symm.trans hk2
  exact hrec.2.1
section SND12
variable {cx : av_X} {p : Program} {l : Launch} {e : Env} {R : Room} {s : State} {m : MethodId} {args : Array Value} {below : List Frame} {meth : Method} {c : Code} {y : Nat} {o : av_R} {A' : av_H} {kc ks : Nat} {R0 : Nat → List Value → av_H → Option (av_R × av_H)}
variable {n pc ln : Nat} {L : av_L} {S : List Value} {A : av_H} {H : Heap} {ls : Array Slot} {locs : List Loc} {cells slots : Nat}
theorem av_inDy {y pc j : Nat} (h : av_site y pc = some j) : av_yn y = (av_sh j).1 ∧ pc = (av_sh j).2.1 ∧ (∀ ix, av_fetch y pc = some (.invokedynamic ix) → ix = (av_sh j).2.2.1) ∧ j < av_nJ := by
  unfold av_site at h
  split at h
  · next hp =>
    have hm := av_look_mem h
    have hk := av_okDy
    rw [List.all_eq_true] at hk
    have hk := hk _ hm
    obtain ⟨e1, e2⟩ := av_div y hp
    simp only [e1, e2, Bool.and_eq_true, decide_eq_true_eq] at hk
    refine ⟨hk.1.1.1, hk.1.1.2, fun ix hf => ?_, hk.2⟩
    have h3 := hk.1.2
    rw [hf] at h3
    simpa using h3
  · cases h
theorem av_s_invokedynamic {ix : Nat} (C : av_ctx cx) (hlo : 3200 ≤ R.locals) (F : av_Fr cx p s m meth c y) (hf : av_fetch y pc = some (.invokedynamic ix)) (hsz : ∀ n pc L S A o A', av_exec R0 y n pc L S A = some (o, A') → av_le A A') (ih : av_IH cx p l e R s m args below meth c y o A' kc ks R0 n) (hd : decode (av_bytes y) pc = .ok (.invokedynamic ix, ln)) (hln : ln = av_len (.invokedynamic ix) ∨ av_len (.invokedynamic ix) = 0) (h : av_stp R0 y n pc L S A (.invokedynamic ix) = some (o, A')) (J : av_J cx R y A A' H ls L locs cells slots kc ks) : W p l e R s m args below meth c H locs cells slots (av_Q cx s below o A' kc ks) (F0 m pc ls (S.map (av_cv cx))) := by
  cases av_ln1 hln (k := 5) rfl (by decide)
  obtain ⟨hx, hb, hr, hlocks, hml, hown, hW0, hini, -, -, hnm⟩ := F
  simp only [av_stp, av_step] at h
  split at h
  · next j hj =>
    obtain ⟨hyn, hpc, hixx, hjN⟩ := av_inDy hj
    have hix := hixx ix hf
    obtain ⟨one, hone, hE⟩ := C.2.2.2.2.2.2.2.2.2 _ hjN
    obtain ⟨m0, k0, cf0, i0, p0, l0, hm0, hk0, hcf0, hshape, -, hfind, -, -, hl0⟩ := State.lambdaAt?_spec hone
    have hmm : m0 = m := by
      have h1 := State.methodNamed?_setVm (s := cx.1) hW0.alike (av_sh j).1
      rw [hm0, ← hyn] at h1
      have h2 : s.methodNamed? (av_yn y) = some m0 := h1
      exact Option.some.inj (h2.symm.trans hnm)
    subst hmm
    obtain ⟨k1, hk1, he1⟩ := hW0.alike.2.2 _ _ hk0
    have hfind1 : (k1.callSites.find? fun y => y.1 == m0.idx && y.2.1 == pc) = some (i0, p0, l0) := by rw [he1, hpc]; exact hfind
    have hl2 := lm_okB
    rw [List.all_eq_true] at hl2
    have hl2 := hl2 j (List.mem_range.mpr hjN)
    simp only [lm_ck2, lm_k0, lm_k1, lm_k2, lm_k3, lm_k4, lm_k5, lm_k6, lm_k7, lm_k8, lm_k9, lm_k10, lm_k11, lm_k12, lm_k13, Bool.and_eq_true, decide_eq_true_eq, List.all_eq_true] at hl2
    obtain ⟨⟨⟨⟨⟨⟨⟨⟨⟨⟨⟨⟨⟨r1, r2⟩, r3⟩, r4⟩, r5⟩, r6⟩, r7⟩, r8⟩, r9⟩, r10⟩, r11⟩, r12⟩, r13⟩, r14⟩ := hl2
    have hlt4 : (av_lt j).length ≤ 4 := by
      have : (List.range 44).all (fun j => decide ((av_lt j).length ≤ 4)) = true := by decide +kernel
      rw [List.all_eq_true] at this
      exact of_decide_eq_true (this j (List.mem_range.mpr hjN))
    split at h
    · next vs S1 hpop =>
      obtain ⟨hst, hal⟩ := av_pop_map cx hpop
      split at h
      · cases h
      · next hlen =>
        have hsum1 := av_sum_le cx S1 12 (by omega)
        have hsumv := av_sum_le cx vs 4 (by omega)
        split at h
        · next hemp =>
          have hlt0 : av_lt j = [] := List.isEmpty_iff.mp hemp
          have hvs : vs = [] := List.eq_nil_of_length_eq_zero (by rw [hal, hlt0]; rfl)
          subst hvs
          have hcap : (av_sh j).2.2.2.captured = [] := List.eq_nil_of_length_eq_zero (by rw [r8, hlt0]; rfl)
          obtain ⟨a, ha, hEa, hlcK⟩ := hE hemp
          rcases hl0 with ⟨a', cell, rfl, ho, -⟩ | ⟨-, -, hne⟩
          · cases ho.symm.trans ha
            rw [hst]
            intro T hT X
            obtain ⟨t, a1, b1⟩ := ih _ _ _ _ h _ _ _ _ _ J T hT X
            refine ⟨t, X.lambdaConstant hx (g := F0 m0 pc ls ((([] : List Value).map (av_cv cx)).reverse ++ S1.map (av_cv cx))) rfl (J.2.1.1.trans hml.symm) (by rw [hb]; exact hd) hk1 hfind1 (by
              rw [X.admits.platform]
              show 2 * 0 + ((S1.map (av_cv cx)).map fun v => v.category).sum + 3072 ≤ _
              omega) ?_, b1⟩
            have e1 : av_cv cx (.ref (av_lc j)) = .ref a := by
              show av_sg cx (av_lc j) = _
              unfold av_sg
              rw [if_pos hlcK, hEa]
              rfl
            rw [List.map_cons, e1] at a1
            exact a1
          · exact absurd hcap hne
        · next hemp =>
          split at h
          · next hoks =>
            have hcapne : (av_sh j).2.2.2.captured ≠ [] := by
              intro hh
              rw [hh] at r8
              exact hemp (List.isEmpty_iff.mpr (List.eq_nil_of_length_eq_zero r8.symm))
            rcases hl0 with ⟨a', cell, -, -, hc0, -⟩ | ⟨rfl, -, -⟩
            · exact absurd hc0 hcapne
            obtain ⟨kc1, file, -, -, -, -, hkc1, -, -, -, -, -, -, -, -, -, -, -, -, -, -, -, -, -, -, -, -, hit⟩ := lm_made C hW0 hjN
            -- the site's descriptor
            have hsd : ∃ bsm nt name desc sig, cf0.constantPool[ix]? = some (.invokeDynamic bsm nt) ∧ cf0.constantPool.nameAndType? nt = some (name, desc) ∧ parseLongMethodDescriptor desc = some sig ∧ sig.parameters = (av_sh j).2.2.2.captured := by
              rw [← hix] at hshape
              exact lm_shape hshape
            obtain ⟨bsm, nt, name, desc, sig, hcp, hnt, hsig, hpar⟩ := hsd
            have hitl : kc1.instanceTypes.toList.length = (av_lt j).length := by rw [← hit, List.length_map]
            have hokv : ∀ (i : Nat) (t : FieldType) (v : Value), kc1.instanceTypes.toList[i]? = some t → vs[i]? = some v → av_ok (av_tc t) v = true := by
              intro i t v ht hv
              rw [List.all_eq_true] at hoks
              refine hoks _ (List.mem_of_getElem? (i := i) ?_)
              rw [List.getElem?_zipWith, ← hit, List.getElem?_map, ht, hv]
              rfl
            have hz : (kc1.instanceTypes.toList.zip (vs.map (av_cv cx))).map (fun (t, v) => narrow t v) = vs.map (av_cv cx) := by
              refine lm_narrow _ _ (by rw [List.length_map, hal, hitl]) fun i t v ht hv => ?_
              rw [List.getElem?_map, Option.map_eq_some_iff] at hv
              obtain ⟨w, hw, rfl⟩ := hv
              exact (av_ok_fit (cx := cx) (hokv i t w ht hw)).1
            have hle := hsz _ _ _ _ _ _ _ h
            have hle1 : A.1 + 1 ≤ A'.1 := hle.1
            have hle2 : A.2.1 + (av_lt j).length ≤ A'.2.1 := hle.2
            obtain ⟨j1, j2, j3, j4, j5, j6, j7⟩ := J
            rw [hst]
            intro T hT X
            have hmk := X.lambdaMakes hx (g := F0 m0 pc ls ((vs.map (av_cv cx)).reverse ++ S1.map (av_cv cx))) rfl (j2.1.trans hml.symm) (by rw [hb]; exact hd) hk1 hfind1 (by rw [he1]; exact hcf0) hcp hnt hsig (vals := vs.map (av_cv cx)) (rest := S1.map (av_cv cx)) (by rw [List.length_map, hal, hpar, r8]) rfl hkc1 (by
              rw [X.admits.platform]
              show 2 * 0 + (((vs.map (av_cv cx)).reverse ++ S1.map (av_cv cx)).map fun v => v.category).sum + 3072 ≤ _
              rw [List.map_append, List.sum_append, List.map_reverse, List.sum_reverse]
              omega) (by omega) (by rw [hz, List.length_map, hal]; omega) (fun i v hv => by
              rw [hz] at hv
              simp only [List.getElem?_toArray, List.getElem?_map, Option.map_eq_some_iff] at hv
              obtain ⟨w, hw, rfl⟩ := hv
              have hil : i < kc1.instanceTypes.toList.length := by rw [hitl, ← hal]; exact (List.getElem?_eq_some_iff.mp hw).1
              have ht := List.getElem?_eq_getElem hil
              have hfit := (av_ok_fit (cx := cx) (hokv i _ w ht hw)).2
              have hkind : kc1.kind = .ordinary := lm_kind C hW0 hjN hkc1
              have hti : kc1.instanceTypes[i]? = some (kc1.instanceTypes.toList[i]) := by rw [← Array.getElem?_toList]; exact ht
              simp only [State.fitsSlot, State.slotType?, hkc1, hkind, Option.bind_eq_bind, Option.bind_some, hti]
              exact hfit)
            rw [hz] at hmk
            obtain ⟨X', hstep⟩ := hmk
            have hnew : av_sg cx A.1 = .ref H.size := by rw [av_sg_new j1.1, j1.2.1]
            have hcell : av_cell cx A.1 (.inl (100 + j, fun i => (vs[i]?).getD .null)) H.size (H.push { cls := cx.2.2.1 j, slots := (vs.map (av_cv cx)).toArray, vm := .none }) := by
              refine ⟨_, Array.getElem?_push_size, rfl, fun q => (by cases q), fun _ => rfl, fun hk => by omega, fun _ => ?_⟩
              rw [show 100 + j - 100 = j from by omega]
              refine ⟨hjN, rfl, rfl, fun i hi => ?_⟩
              have hil : i < vs.length := by rw [hal]; exact hi
              simp only [List.getElem?_toArray, List.getElem?_map]
              rw [List.getElem?_eq_getElem hil]
              rfl
            have hss : (vs.map (av_cv cx)).toArray.size = (av_lt j).length := by simp [hal]
            rw [hss] at X'
            have hk2 := ih _ _ _ _ h _ ls locs (cells + 1) (slots + (av_lt j).length) ⟨j1.new (by simp) (fun z hz => by rw [Array.getElem?_push_lt hz, Array.getElem?_eq_getElem hz]) hcell, j2, j3, (by show cells + 1 + (A'.1 - (A.1 + 1)) ≤ kc; omega), (by show slots + (av_lt j).length + (A'.2.1 - (A.2.1 + (av_lt j).length)) ≤ ks; omega), j6, j7⟩
            rw [show (Value.ref A.1 :: S1).map (av_cv cx) = av_sg cx A.1 :: S1.map (av_cv cx) from rfl, hnew] at hk2
            obtain ⟨t, a1, b1⟩ := hk2 (T.pushCell { cls := cx.2.2.1 j, slots := (vs.map (av_cv cx)).toArray, vm := .none }) (by show T.heap.push _ = _; rw [hT]) X'
            refine ⟨t, hstep t ?_, b1⟩
            rw [hT]
            exact a1
          · cases h
    · cases h
  · cases h
theorem av_s_if_acmp {cnd : Jvm.ClassFile.ACond} {off : Int} (hjm : 0 ≤ (pc : Int) + off) (F : av_Fr cx p s m meth c y) (ih : av_IH cx p l e R s m args below meth c y o A' kc ks R0 n) (hd : decode (av_bytes y) pc = .ok (.if_acmp cnd off, ln)) (hln : ln = av_len (.if_acmp cnd off) ∨ av_len (.if_acmp cnd off) = 0) (h : av_stp R0 y n pc L S A (.if_acmp cnd off) = some (o, A')) (J : av_J cx R y A A' H ls L locs cells slots kc ks) : W p l e R s m args below meth c H locs cells slots (av_Q cx s below o A' kc ks) (F0 m pc ls (S.map (av_cv cx))) := by
  cases av_ln1 hln (k := 3) rfl (by decide)
  obtain ⟨hx, hb, hr, hlocks, hml, hown, hW0, -⟩ := F
  have ht : (pc : Int) + off = (((pc : Int) + off).toNat : Int) := (Int.toNat_of_nonneg hjm).symm
  simp only [av_stp, av_step] at h
  split at h
  · next b a S1 =>
    have key : ∀ (rx ry : Option Nat), av_sg cx a = va_rf rx → av_sg cx b = va_rf ry → (a = b → rx = ry) → (¬ a = b → ¬ rx = ry) → W p l e R s m args below meth c H locs cells slots (av_Q cx s below o A' kc ks) (F0 m pc ls ((Value.ref b :: Value.ref a :: S1).map (av_cv cx))) := by
      intro rx ry h1 h2 h3 h4
      rw [show (Value.ref b :: Value.ref a :: S1).map (av_cv cx) = av_sg cx b :: av_sg cx a :: S1.map (av_cv cx) from rfl, h1, h2]
      cases cnd
      · refine lv_acmp_eq hx hb hd ht (fun hq => ?_) (fun hq => ?_)
        · by_cases hab : a = b
          · rw [if_pos hab] at h
            simp only [av_jmp, if_pos hjm] at h
            exact ih _ _ _ _ h _ _ _ _ _ J
          · exact absurd hq (h4 hab)
        · by_cases hab : a = b
          · exact absurd (h3 hab) hq
          · rw [if_neg hab] at h
            split at h
            · exact ih _ _ _ _ h _ _ _ _ _ J
            · cases h
      · refine lv_acmp_ne hx hb hd ht (fun hq => ?_) (fun hq => ?_)
        · by_cases hab : a = b
          · exact absurd (h3 hab) hq
          · rw [if_neg hab] at h
            split at h
            · simp only [av_jmp, if_pos hjm] at h
              exact ih _ _ _ _ h _ _ _ _ _ J
            · cases h
        · by_cases hab : a = b
          · rw [if_pos hab] at h
            exact ih _ _ _ _ h _ _ _ _ _ J
          · exact absurd hq (h4 hab)
    have hrf : ∀ a : Nat, ∃ r : Option Nat, av_sg cx a = va_rf r := fun a => by
      unfold av_sg
      split
      · exact ⟨_, rfl⟩
      · exact ⟨some _, rfl⟩
    by_cases hab : a = b
    · obtain ⟨r, hr⟩ := hrf a
      exact key r r hr (by rw [← hab]; exact hr) (fun _ => rfl) (fun hne => absurd hab hne)
    · have hcond : (A.2.2 a).isSome = true ∧ (A.2.2 b).isSome = true ∧ (av_K ≤ a ∨ av_K ≤ b) := by
        rw [if_neg hab] at h
        split at h
        · next hc => exact hc
        · cases h
      obtain ⟨ca, hca⟩ := Option.isSome_iff_exists.mp hcond.1
      obtain ⟨cb, hcb⟩ := Option.isSome_iff_exists.mp hcond.2.1
      obtain ⟨qa, hqa, -⟩ := J.1.at hca
      obtain ⟨qb, hqb, -⟩ := J.1.at hcb
      refine key (some qa) (some qb) hqa hqb (fun hh => absurd hh hab) (fun _ hq => ?_)
      exact hab (av_sg_inj J.1 hca hcb hcond.2.2 hqa hqb (Option.some.inj hq))
  · cases h
/-- what a cast asks -/
theorem av_castI (C : av_ctx cx) (hW : cx.1.WarmedH s.vm) {o ix k : Nat} {b : Bool} (h : av_cast o ix k = some b) (args : Array Value) : ∃ D cT, (Cond.classLink (av_on o) ix D).before args s = true ∧ s.vm.findClass D = some cT ∧ s.vm.assignable (if k < 200 then cx.2.1.1 k else cx.2.2.2.1 (k - 200)) cT = b := by
  obtain ⟨D, cT, h1, h2, h3⟩ := C.2.2.2.2.2.1 o ix k b h
  exact ⟨D, cT, av_word C hW h1 args, by rw [hW.alike.findClass]; exact h2, by rw [hW.alike.assignable]; exact h3⟩
/-- the class of a cell, as casts ask for it -/
theorem av_kcls {a : Nat} {cl : av_C} {q : Addr} (hc : av_cell cx a cl q H) (h9 : av_kind a cl < 256) (h1 : av_kind a cl < 100 ∨ 200 ≤ av_kind a cl) : ∃ cell : Cell, H[q]? = some cell ∧ cell.vm.isStatics = false ∧ cell.cls = (if av_kind a cl < 200 then cx.2.1.1 (av_kind a cl) else cx.2.2.2.1 (av_kind a cl - 200)) := by
  obtain ⟨cell, g1, g2, g3, g4, g5⟩ := hc
  refine ⟨cell, g1, g2, ?_⟩
  cases cl with
  | inl ob =>
    obtain ⟨k, f⟩ := ob
    simp only [av_kind] at h1 h9
    dsimp only at g5
    rcases h1 with h1 | h1
    · rw [if_pos (show av_kind a (Sum.inl (k, f)) < 200 from (by show k < 200; omega))]
      exact (g5.1 h1).2.1
    · obtain ⟨hj, -⟩ := g5.2 (by omega)
      have : av_nJ = 44 := rfl
      omega
  | inr ar =>
    obtain ⟨t, nn, f⟩ := ar
    dsimp only at g5
    by_cases hK : av_K ≤ a
    · have e : av_kind a (Sum.inr (t, nn, f)) = 200 + t := if_pos hK
      rw [e] at h1 h9 ⊢
      rw [if_neg (by omega), show 200 + t - 200 = t from by omega]
      exact g5.2.2.2.2 hK
    · have e : av_kind a (Sum.inr (t, nn, f)) = 999 := if_neg hK
      rw [e] at h9
      omega
theorem av_cellcls (C : av_ctx cx) (hW : cx.1.WarmedH s.vm) {a : Nat} {cl : av_C} {q : Addr} {cell : Cell} (hc : av_cell cx a cl q H) (h1 : H[q]? = some cell) : ∃ kcell, s.vm.classes[cell.cls]? = some kcell := by
  obtain ⟨cell', g1, g2, g3, g4, g5⟩ := hc
  cases h1.symm.trans g1
  cases cl with
  | inl ob =>
    obtain ⟨k, f⟩ := ob
    exact av_objcls C hW (ob := (k, f)) g5
  | inr ar =>
    obtain ⟨t, nn, f⟩ := ar
    obtain ⟨-, kA, hkA, -⟩ := (State.isArrayOf_alike hW.alike g5.1)
    exact ⟨kA, hkA⟩
theorem av_castk {o ix k : Nat} {b : Bool} (h : av_cast o ix k = some b) : k < 256 ∧ (k < 100 ∨ 200 ≤ k) := by
  unfold av_cast at h
  split at h
  · next hk =>
    refine ⟨hk.1, ?_⟩
    have hm := av_look_mem h
    have hall : av_castL.all (fun e => decide (e.1 % 256 < 100) || decide (200 ≤ e.1 % 256)) = true := by decide +kernel
    rw [List.all_eq_true] at hall
    have h2 := hall _ hm
    simp only [Bool.or_eq_true, decide_eq_true_eq] at h2
    have e1 : ((o * 65536 + ix) * 256 + k) % 256 = k := by omega
    rw [e1] at h2
    exact h2
  · cases h
theorem av_s_checkcast {ix : Nat} (C : av_ctx cx) (F : av_Fr cx p s m meth c y) (ih : av_IH cx p l e R s m args below meth c y o A' kc ks R0 n) (hd : decode (av_bytes y) pc = .ok (.checkcast ix, ln)) (hln : ln = av_len (.checkcast ix) ∨ av_len (.checkcast ix) = 0) (h : av_stp R0 y n pc L S A (.checkcast ix) = some (o, A')) (J : av_J cx R y A A' H ls L locs cells slots kc ks) : W p l e R s m args below meth c H locs cells slots (av_Q cx s below o A' kc ks) (F0 m pc ls (S.map (av_cv cx))) := by
  cases av_ln1 hln (k := 3) rfl (by decide)
  obtain ⟨hx, hb, hr, hlocks, hml, hown, hW0, -⟩ := F
  simp only [av_stp, av_step] at h
  split at h
  · next S1 =>
    rw [show (Value.null :: S1).map (av_cv cx) = .null :: S1.map (av_cv cx) from rfl]
    exact lv_castN hx hb hd (ih _ _ _ _ h _ _ _ _ _ J)
  · next a S1 =>
    split at h
    · next cl hcl =>
      split at h
      · next hcast =>
        obtain ⟨D, cT, h1, h2, h3⟩ := av_castI C hW0 hcast args
        obtain ⟨hk1, hk2⟩ := av_castk hcast
        obtain ⟨q, hq, hcell⟩ := J.1.at hcl
        obtain ⟨cell, g1, g2, g3⟩ := av_kcls hcell hk1 hk2
        have hk := ih _ _ _ _ h _ _ _ _ _ J
        rw [show (Value.ref a :: S1).map (av_cv cx) = av_sg cx a :: S1.map (av_cv cx) from rfl, hq] at hk ⊢
        intro T hT X
        obtain ⟨vm', X', st⟩ := X.checkcastYes hx hown h1 (by rw [hT]; exact g1) g2 h2 (by rw [g3]; exact h3) (g := F0 m pc ls (.ref q :: S1.map (av_cv cx))) rfl rfl (by rw [hb]; exact hd)
        obtain ⟨t, a1, b1⟩ := hk (T.setVm vm') hT X'
        exact ⟨t, st t a1, b1⟩
      · cases h
    · cases h
  · cases h
theorem av_s_instanceof {ix : Nat} (C : av_ctx cx) (F : av_Fr cx p s m meth c y) (ih : av_IH cx p l e R s m args below meth c y o A' kc ks R0 n) (hd : decode (av_bytes y) pc = .ok (.instanceof ix, ln)) (hln : ln = av_len (.instanceof ix) ∨ av_len (.instanceof ix) = 0) (h : av_stp R0 y n pc L S A (.instanceof ix) = some (o, A')) (J : av_J cx R y A A' H ls L locs cells slots kc ks) : W p l e R s m args below meth c H locs cells slots (av_Q cx s below o A' kc ks) (F0 m pc ls (S.map (av_cv cx))) := by
  cases av_ln1 hln (k := 3) rfl (by decide)
  obtain ⟨hx, hb, hr, hlocks, hml, hown, hW0, -⟩ := F
  simp only [av_stp, av_step] at h
  split at h
  · next a S1 =>
    split at h
    · next cl hcl =>
      split at h
      · next hcast =>
        obtain ⟨D, cT, h1, h2, h3⟩ := av_castI C hW0 hcast args
        obtain ⟨hk1, hk2⟩ := av_castk hcast
        obtain ⟨q, hq, hcell⟩ := J.1.at hcl
        obtain ⟨cell, g1, g2, g3⟩ := av_kcls hcell hk1 hk2
        have hk := ih _ _ _ _ h _ _ _ _ _ J
        rw [show (Value.ref a :: S1).map (av_cv cx) = av_sg cx a :: S1.map (av_cv cx) from rfl, hq]
        intro T hT X
        obtain ⟨vm', X', st⟩ := X.instanceofYes hx hown h1 (by rw [hT]; exact g1) g2 h2 (by rw [g3]; exact h3) (g := F0 m pc ls (.ref q :: S1.map (av_cv cx))) rfl rfl (by rw [hb]; exact hd)
        obtain ⟨t, a1, b1⟩ := hk (T.setVm vm') hT X'
        exact ⟨t, st t a1, b1⟩
      · next hcast =>
        obtain ⟨D, cT, h1, h2, h3⟩ := av_castI C hW0 hcast args
        obtain ⟨hk1, hk2⟩ := av_castk hcast
        obtain ⟨q, hq, hcell⟩ := J.1.at hcl
        obtain ⟨cell, g1, g2, g3⟩ := av_kcls hcell hk1 hk2
        have hk := ih _ _ _ _ h _ _ _ _ _ J
        rw [show (Value.ref a :: S1).map (av_cv cx) = av_sg cx a :: S1.map (av_cv cx) from rfl, hq]
        obtain ⟨ks0, hks0⟩ : ∃ kcell, s.vm.classes[cell.cls]? = some kcell := av_cellcls C hW0 hcell g1
        intro T hT X
        obtain ⟨vm', X', st⟩ := va_instofNo X hx hown h1 (by rw [hT]; exact g1) g2 hks0 h2 (by rw [g3]; exact h3) (g := F0 m pc ls (.ref q :: S1.map (av_cv cx))) rfl rfl (by rw [hb]; exact hd)
        obtain ⟨t, a1, b1⟩ := hk (T.setVm vm') hT X'
        exact ⟨t, st t a1, b1⟩
      · cases h
    · cases h
  · cases h
end SND12

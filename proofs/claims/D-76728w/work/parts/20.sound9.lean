/-! ===== SOUNDNESS, 10: constructors, super calls, virtual calls, calls through an interface ===== -/
section SNG
variable {cx : av_X} {p : Program} {l : Launch} {e : Env} {R : Room} {s : State} {m : MethodId} {args : Array Value} {below : List Frame} {meth : Method} {c : Code} {y : Nat} {o : av_R} {A' : av_H} {kc ks : Nat} {d N : Nat}
variable {n pc ln : Nat} {L : av_L} {S : List Value} {A : av_H} {H : Heap} {ls : Array Slot} {locs : List Loc} {cells slots : Nat}
theorem av_inSp {o z : Nat} (h : av_spr o z = true) : o = av_sprO ∧ z < av_nY ∧ z ≠ 0 ∧ (av_yn z).cls = "java/lang/AbstractStringBuilder" ∧ (av_yn z).name ≠ "<init>" ∧ Cond.sameMethod "java/lang/AbstractStringBuilder" "java/lang/AbstractStringBuilder" (av_yn z).name (av_yn z).desc ∈ lw_tbl ∧ Cond.instanceMethod (av_yn z) ∈ lw_tbl := by
  unfold av_spr at h
  rw [Bool.and_eq_true, beq_iff_eq, List.contains_iff_mem] at h
  obtain ⟨ho, h⟩ := h
  obtain ⟨j, hj⟩ := List.getElem?_of_mem h
  have hl : j < av_wSp.length := by rw [← av_okSp.2.1]; exact (List.getElem?_eq_some_iff.mp hj).1
  have hz : (av_sprL.zip av_wSp)[j]? = some (z, av_wSp[j]) := by
    rw [List.getElem?_zip_eq_some]
    exact ⟨hj, List.getElem?_eq_getElem hl⟩
  have hk := av_okSp.1
  rw [List.all_eq_true] at hk
  have hk := hk _ (List.mem_of_getElem? hz)
  simp only [Bool.and_eq_true, decide_eq_true_eq] at hk
  exact ⟨ho, hk.1.1.1.1.1, hk.1.1.1.1.2, hk.1.1.1.2, hk.1.1.2, av_is_in hk.1.2, av_is_in hk.2⟩
/-- the class of an object's cell -/
theorem av_ncls (C : av_ctx cx) (hW : cx.1.WarmedH s.vm) {k : Nat} (hk : k < av_nK) : ∃ kC : Class, s.vm.findClass (av_cn k) = some (cx.2.1.1 k) ∧ s.vm.classes[cx.2.1.1 k]? = some kC := by
  obtain ⟨-, hfc, kC, hkC, -⟩ := av_kn C hW hk
  exact ⟨kC, hfc, hkC⟩
theorem av_inSel {z k z' : Nat} (h : av_sel z k = some z') : k < 200 ∧
    ((k < av_nK ∧ av_itf z = false ∧ z' = z ∧ z < av_nY ∧ z ≠ 0 ∧ Cond.selects (av_cn k) (av_xn z) (av_xn z) ∈ lw_tbl ∧ Cond.instanceMethod (av_xn z) ∈ lw_tbl) ∨
     (av_nestL.contains z = false ∧ k < av_nK ∧ av_itf z = false ∧ z' < av_nY ∧ z' ≠ 0 ∧ ∃ owner, (owner ≠ "java/lang/invoke/MethodHandle" ∧ owner ≠ "java/lang/invoke/VarHandle") ∧ (parseMethodDescriptor (av_xn z).desc).map (fun d => d.parameters.length) = some (av_na z) ∧ Cond.sameMethod (av_xn z).cls owner (av_xn z).name (av_xn z).desc ∈ lw_tbl ∧
        (Cond.declares ⟨owner, (av_xn z).name, (av_xn z).desc⟩ ∈ lw_tbl ∨ (∃ dn, dn < av_nY ∧ dn ≠ 0 ∧ dn ≠ av_yR ∧ av_yn dn = ⟨owner, (av_xn z).name, (av_xn z).desc⟩ ∧ Cond.instanceMethod ⟨owner, (av_xn z).name, (av_xn z).desc⟩ ∈ lw_tbl)) ∧ Cond.selects (av_cn k) (av_xn z) (av_yn z') ∈ lw_tbl ∧ Cond.instanceMethod (av_yn z') ∈ lw_tbl) ∨
     (av_nestL.contains z = false ∧ k < av_nK ∧ av_itf z = true ∧ z' < av_nY ∧ z' ≠ 0 ∧ ((av_xn z).cls ≠ "java/lang/invoke/MethodHandle" ∧ (av_xn z).cls ≠ "java/lang/invoke/VarHandle") ∧ (parseMethodDescriptor (av_xn z).desc).map (fun d => d.parameters.length) = some (av_na z) ∧ Cond.declares (av_xn z) ∈ lw_tbl ∧ Cond.interfaceMethod (av_xn z).cls (av_xn z).cls (av_xn z).name (av_xn z).desc ∈ lw_tbl ∧
        Cond.selects (av_cn k) (av_xn z) (av_yn z') ∈ lw_tbl ∧ Cond.instanceMethod (av_yn z') ∈ lw_tbl ∧ Cond.publicMethod (av_yn z') ∈ lw_tbl ∧ Cond.unhidden (av_cn k) (av_xn z).name (av_xn z).desc ∈ lw_tbl ∧ Cond.castable (av_cn k) (av_xn z).cls ∈ lw_tbl) ∨
     (av_nestL.contains z = false ∧ 100 ≤ k ∧ av_itf z = true ∧ z' = 2000 + (k - 100) ∧ k - 100 < av_nJ ∧ ((av_xn z).cls ≠ "java/lang/invoke/MethodHandle" ∧ (av_xn z).cls ≠ "java/lang/invoke/VarHandle") ∧ (parseMethodDescriptor (av_xn z).desc).map (fun d => d.parameters.length) = some (av_na z) ∧
        (av_xn z).cls = (av_sh (k - 100)).2.2.2.iface ∧ (av_xn z).name = (av_sh (k - 100)).2.2.2.name ∧ (av_xn z).desc = (av_sh (k - 100)).2.2.2.sam.toString ∧ Cond.declares (av_xn z) ∈ lw_tbl ∧ Cond.interfaceMethod (av_xn z).cls (av_xn z).cls (av_xn z).name (av_xn z).desc ∈ lw_tbl)) := by
  unfold av_sel at h
  split at h
  · next hk2 =>
    refine ⟨hk2, ?_⟩
    obtain ⟨q, hq⟩ := av_look_zip av_okSel.2 h av_okSel.1
    have e1 : (z * 256 + k) / 256 = z := by omega
    have e2 : (z * 256 + k) % 256 = k := by omega
    simp only [av_ckS, e1, e2] at hq
    split at hq
    · simp only [Bool.and_eq_true, Bool.not_eq_true', decide_eq_true_eq] at hq
      obtain ⟨⟨⟨⟨⟨⟨h1, h2⟩, h3⟩, h4⟩, h5⟩, h6⟩, h7⟩ := hq
      exact Or.inl ⟨h1, h2, h3, h4, h5, av_is_in h6, av_is_in h7⟩
    · simp only [Bool.and_eq_true, Bool.not_eq_true', decide_eq_true_eq] at hq
      obtain ⟨⟨⟨⟨⟨⟨⟨⟨⟨⟨⟨h0, h1⟩, h2⟩, h3⟩, h4⟩, h5⟩, h6⟩, h7⟩, h8⟩, h9⟩, h10⟩, h11⟩ := hq
      refine Or.inr (Or.inl ⟨h0, h1, h2, h3, h4, _, ⟨h5, h6⟩, h7, av_is_in h8, ?_, av_is_in h10, av_is_in h11⟩)
      split at h9
      · exact Or.inl (av_is_in h9)
      · simp only [Bool.and_eq_true, decide_eq_true_eq] at h9
        exact Or.inr ⟨_, h9.1.1.1.1, h9.1.1.1.2, h9.1.1.2, h9.1.2, av_is_in h9.2⟩
    · simp only [Bool.and_eq_true, Bool.not_eq_true', decide_eq_true_eq] at hq
      obtain ⟨⟨⟨⟨⟨⟨⟨⟨⟨⟨⟨⟨⟨⟨h0, h1⟩, h2⟩, h3⟩, h4⟩, h5⟩, h6⟩, h7⟩, h8⟩, h9⟩, h10⟩, h11⟩, h12⟩, h13⟩, h14⟩ := hq
      exact Or.inr (Or.inr (Or.inl ⟨h0, h1, h2, h3, h4, ⟨h5, h6⟩, h7, av_is_in h8, av_is_in h9, av_is_in h10, av_is_in h11, av_is_in h12, av_is_in h13, av_is_in h14⟩))
    · simp only [Bool.and_eq_true, Bool.not_eq_true', decide_eq_true_eq] at hq
      obtain ⟨⟨⟨⟨⟨⟨⟨⟨⟨⟨⟨⟨h0, h1⟩, h2⟩, h3⟩, h4⟩, h5⟩, h6⟩, h7⟩, h8⟩, h9⟩, h10⟩, h11⟩, h12⟩ := hq
      exact Or.inr (Or.inr (Or.inr ⟨h0, h1, h2, h3, h4, ⟨h5, h6⟩, h7, h8, h9, h10, av_is_in h11, av_is_in h12⟩))
  · cases h
theorem av_code (C : av_ctx cx) (hW : cx.1.WarmedH s.vm) {z : Nat} (hz : z < av_nY) (hz0 : z ≠ 0) (hR : z ≠ av_yR) (a' : Array Value) : (Cond.code (av_yn z) (av_bytes z) (av_ml z) (av_rty z)).before a' s = true := by
  have hm : z ∈ av_cwl := by
    have h := av_cwm
    rw [List.all_eq_true] at h
    have h := h z (List.mem_range.mpr hz)
    simp only [Bool.or_eq_true, beq_iff_eq, List.contains_iff_mem] at h
    rcases h with (h | h) | h
    · exact absurd h hz0
    · exact absurd h hR
    · exact h
  exact av_wordT C hW (av_cws z hm) rfl a'
theorem av_objcls (C : av_ctx cx) (hW : cx.1.WarmedH s.vm) {cell : Cell} {ob : Nat × (Nat → Value)} (h : (ob.1 < 100 → ob.1 < av_nK ∧ cell.cls = cx.2.1.1 ob.1 ∧ ∀ i, i < av_nf ob.1 → cell.slots[cx.2.1.2 ob.1 i]? = some (av_cv cx (ob.2 i))) ∧
      (100 ≤ ob.1 → ob.1 - 100 < av_nJ ∧ cell.vm = .none ∧ cell.cls = cx.2.2.1 (ob.1 - 100) ∧ ∀ i, i < (av_lt (ob.1 - 100)).length → cell.slots[i]? = some (av_cv cx (ob.2 i)))) : ∃ kcell, s.vm.classes[cell.cls]? = some kcell := by
  by_cases hk : ob.1 < 100
  · obtain ⟨hkN, hcls, -⟩ := h.1 hk
    obtain ⟨kC, -, hkC⟩ := av_ncls C hW hkN
    exact ⟨kC, by rw [hcls]; exact hkC⟩
  · obtain ⟨hj, -, hcls, -⟩ := h.2 (by omega)
    obtain ⟨one, hone, -⟩ := C.2.2.2.2.2.2.2.2.2 _ hj
    obtain ⟨m0, k0, cf0, i0, p0, l0, -, -, -, -, -, -, hmade, -, -⟩ := State.lambdaAt?_spec hone
    obtain ⟨dk, k, ok, tk, file, cf, object, iface, t, lay, methods, tgt, found, -, hk, -⟩ := Jvm.Lambda.isMade_spec hmade
    obtain ⟨k', hk', -⟩ := hW.alike.2.2 _ _ hk
    exact ⟨k', by rw [hcls]; exact hk'⟩
theorem av_s_invokespecial (C : av_ctx cx) (hF1 : Cond.classLink "StockEvents$Reader" 34 "StockEvents$Fault" ∈ lw_all) (hF2 : Cond.castable "StockEvents$Fault" "StockEvents$Fault" ∈ lw_tbl) (IHd : av_Snd cx l d N) (hfr : d + 1 ≤ R.frames) (hlo : 64 * (d + 1) + 3200 ≤ R.locals) (F : av_Fr cx p s m meth c y) {ix : Nat} (hO1 : Cond.instanceMethod Lib.objectInit ∈ lw_all) (hO2 : Cond.code Lib.objectInit ⟨#[0xb1]⟩ 1 none ∈ lw_all) (hO3 : av_xn 1000 = Lib.objectInit)
    (ih : av_IH cx p l e R s m args below meth c y o A' kc ks (fun z as A => av_run N d z as A) n) (hd : decode (av_bytes y) pc = .ok (.invokespecial ix, ln)) (hln : ln = av_len (.invokespecial ix) ∨ av_len (.invokespecial ix) = 0) (h : av_stp (fun z as A => av_run N d z as A) y n pc L S A (.invokespecial ix) = some (o, A')) (J : av_J cx R y A A' H ls L locs cells slots kc ks) :
    W p l e R s m args below meth c H locs cells slots (av_Q cx s below o A' kc ks) (F0 m pc ls (S.map (av_cv cx))) := by
  cases av_ln1 hln (k := 3) rfl (by decide)
  have F0' := F
  obtain ⟨hx, hb, hr, hlocks, hml, hown, hW0, hini, -⟩ := F
  simp only [av_stp, av_step] at h
  split at h
  · next z hz =>
    split at h
    · next hz1 =>
      subst hz1
      split at h
      · next a S1 =>
        split at h
        · next hcond =>
          obtain ⟨hlen, hsome⟩ := hcond
          obtain ⟨cl, hcl⟩ := Option.isSome_iff_exists.mp hsome
          obtain ⟨q, hq, -⟩ := J.1.at hcl
          have hw : Cond.methodLink (av_on (av_own y)) ix Lib.objectInit ∈ lw_tbl := by
            rcases av_inM hz with hw | hw
            · rw [hO3] at hw; exact hw
            · exact absurd rfl hw.2.1
          show W p l e R s m args below meth c H locs cells slots _ (F0 m pc ls (av_sg cx a :: _))
          rw [hq]
          have hsum := av_sum_le cx S1 12 hlen
          exact W.objInit hx hb hown (av_wordT C hW0 hw rfl args) (av_word C hW0 hO1 args) (av_word C hW0 hO2 args) rfl (J.2.1.1.trans hml.symm) rfl hd (by omega) (by show 2 * 0 + _ + 12 ≤ _; omega) (ih _ _ _ _ h _ _ _ _ _ J)
        · cases h
      · cases h
    · split at h
      · next as b S1 hpop =>
        split at h
        · next ob hc =>
          split at h
          · next hcond =>
            obtain ⟨hlen, hkind⟩ := hcond
            obtain ⟨hst, hal⟩ := av_pop_map cx hpop
            obtain ⟨q, hq, cell, h1, h2, h3, h4, h5⟩ := J.1.at hc
            have hobj : ∀ z, cell.vm ≠ .statics z := fun z hz => by rw [hz] at h2; cases h2
            rw [hst]
            rw [show (Value.ref b :: S1).map (av_cv cx) = av_sg cx b :: S1.map (av_cv cx) from rfl, hq]
            have hasv : ((Value.ref b :: as).map (av_cv cx)).toArray = (Value.ref q :: as.map (av_cv cx)).toArray := by
              rw [show (Value.ref b :: as).map (av_cv cx) = av_sg cx b :: as.map (av_cv cx) from rfl, hq]
            refine av_w_call (asv := ((Value.ref b :: as).map (av_cv cx)).toArray) (len := 3) C hF1 hF2 F0' (av_exec_le (fun z as A o A' h => av_run_le _ _ _ _ _ _ _ h) y) (fun z as A o A' h => av_run_le _ _ _ _ _ _ _ h) ih h J (fun o1 A1 hrun hcc hss T hT X => ?_)
            have key : ∃ (vm' : Vm) (mk : MethodId), z < av_nY ∧ z ≠ 0 ∧ s.methodNamed? (av_yn z) = some mk ∧ s.WarmedH vm' ∧ ∀ target, (∀ acts, Steps p.tables e below (doInvoke e ((T.setVm vm').setTop (F0 m pc ls (S1.map (av_cv cx)))) acts mk (Value.ref q :: as.map (av_cv cx)).toArray).1 target) → Steps p.tables e below (T.setTop (F0 m pc ls ((as.map (av_cv cx)).reverse ++ Value.ref q :: S1.map (av_cv cx)))) target := by
              have hpl : e.platform.magicAccessors = ({} : Platform).magicAccessors := by rw [X.admits.platform]
              rcases hkind with hkind | hkind
              · obtain ⟨hzN, hz0, hzR, hnm, hrt, hiw⟩ := av_inInz hkind
                have hy := av_okYs hzN
                have hxl : av_xn z = av_yn z := av_xn_lt (Nat.lt_of_lt_of_le hzN (by decide))
                have hcode := av_code C hW0 hzN hz0 hzR args
                rw [hrt] at hcode
                rcases av_inM hz with hw | hw
                · rw [hxl] at hw
                  obtain ⟨mk, methM, cM, kP, vm₁, hnamed, hmethM, -, -, -, -, -, -, hW₁, hstep₁⟩ := Steps.initColdArgs (e := e) X.here hx X.warmed hpl hown hnm ⟨hy.2.2.1, hy.2.2.2.1⟩ (av_wordT C hW0 hw rfl args) (av_wordT C hW0 hiw rfl args) hcode (f := F0 m pc ls ((as.map (av_cv cx)).reverse ++ Value.ref q :: S1.map (av_cv cx))) rfl (fun sig hs => by rw [List.length_map, hal]; exact av_plen hzN sig hs) rfl (by rw [hb]; exact hd)
                  exact ⟨vm₁, mk, hzN, hz0, hnamed, hW₁, hstep₁⟩
                · obtain ⟨hw, -⟩ := hw
                  rw [hxl] at hw
                  obtain ⟨mk, methM, cM, kP, vm₁, hnamed, hmethM, -, -, -, -, -, -, hW₁, hstep₁⟩ := Steps.initColdArgsNest (e := e) X.here hx X.warmed hpl hown hnm ⟨hy.2.2.1, hy.2.2.2.1⟩ (av_wordM C hW0 hw args) (av_wordT C hW0 hiw rfl args) hcode (f := F0 m pc ls ((as.map (av_cv cx)).reverse ++ Value.ref q :: S1.map (av_cv cx))) rfl (fun sig hs => by rw [List.length_map, hal]; exact av_plen hzN sig hs) rfl (by rw [hb]; exact hd)
                  exact ⟨vm₁, mk, hzN, hz0, hnamed, hW₁, hstep₁⟩
              · obtain ⟨ho, hzN, hz0, hcl, hnm, hsw, hiw⟩ := av_inSp hkind
                have hy := av_okYs hzN
                have hxl : av_xn z = av_yn z := av_xn_lt (Nat.lt_of_lt_of_le hzN (by decide))
                obtain ⟨mk, methM, hn, hmM, hstM, habM⟩ := Cond.instanceMethod_spec (av_wordT C hW0 hiw rfl args)
                obtain ⟨methk, ck, hmk, -, -, -, -, -, hsig, -⟩ := av_found C hW0 hzN hz0 hn
                cases hmk.symm.trans hmM
                have hyn : av_yn z = ⟨"java/lang/AbstractStringBuilder", (av_yn z).name, (av_yn z).desc⟩ := by rw [← hcl]
                have hsb : (Cond.superclass "java/lang/StringBuilder" "java/lang/AbstractStringBuilder").before args s = true := av_wordT C hW0 (av_is_in av_okSp.2.2.2) rfl args
                have hownS : s.vm.findClass "java/lang/StringBuilder" = some m.cls := by rw [← av_okSp.2.2.1, ← ho]; exact hown
                have hcn : s.vm.findClass "java/lang/AbstractStringBuilder" = some mk.cls := by rw [← hcl]; exact findClass_of_methodNamed hn
                obtain ⟨cp, dk, kp, hcp, hdk, hkp, hsuper, -, -, hnid⟩ := Cond.superclass_spec hownS hsb
                cases hcn.symm.trans hcp
                have hw : Cond.methodLink (av_on (av_own y)) ix (av_yn z) ∈ lw_tbl := by
                  rcases av_inM hz with hw | hw
                  · rw [hxl] at hw; exact hw
                  · exfalso
                    have h9 := hw.2.2.1
                    unfold av_spr at hkind
                    rw [h9, Bool.and_false] at hkind
                    cases hkind
                obtain ⟨kcl, hkcl⟩ : ∃ kcell, s.vm.classes[cell.cls]? = some kcell := av_objcls C hW0 h5
                obtain ⟨vm', X', hst⟩ := X.invokespecialUp hx (owner := "java/lang/AbstractStringBuilder") (x := av_yn z) hown (av_wordT C hW0 hw rfl args) (by rw [hcl]; exact av_wordT C hW0 hsw rfl args) (by rw [← hyn]; exact hn) hmM hstM habM hnm hdk hnid (by rw [hcl]; exact hcn) hsuper (by simp [Vm.isSubclass, Vm.isSubclassAux]) (by rw [hT]; exact h1) hobj hkcl
                  (g := F0 m pc ls ((as.map (av_cv cx)).reverse ++ Value.ref q :: S1.map (av_cv cx))) rfl (by rw [List.length_map, hal]; exact av_plen hzN _ hsig) rfl (by rw [hb]; exact hd)
                exact ⟨vm', mk, hzN, hz0, hn, X'.warmed, fun target ht => hst target (ht [])⟩
            obtain ⟨vm', mk, hzN, hz0, hn, hW', hstep⟩ := key
            have X' := X.noted hW'
            refine ⟨vm', mk, fun target ht => hstep target (fun acts => by rw [← hasv]; exact ht acts), ?_⟩
            exact av_callZ C IHd X' hx (hW0.trans hW') (g := F0 m pc ls (S1.map (av_cv cx))) rfl (J.2.1.1.trans hml.symm) rfl (av_sum_le cx S1 12 hlen) (by rw [hb]; exact hd) hzN hz0 (X'.named hn) hrun (by show av_rel cx A T.heap; rw [hT]; exact J.1) hfr hlo hcc hss
          · cases h
        · cases h
      · cases h
  · cases h
end SNG

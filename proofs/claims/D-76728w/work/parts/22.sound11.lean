/-! ===== SOUNDNESS, 12: calls on an object, by its class ===== -/
section SNG
variable {cx : av_X} {p : Program} {l : Launch} {e : Env} {R : Room} {s : State} {m : MethodId} {args : Array Value} {below : List Frame} {meth : Method} {c : Code} {y : Nat} {o : av_R} {A' : av_H} {kc ks : Nat} {d N : Nat}
variable {n pc ln : Nat} {L : av_L} {S : List Value} {A : av_H} {H : Heap} {ls : Array Slot} {locs : List Loc} {cells slots : Nat}
theorem av_wordC (C : av_ctx cx) (hW : cx.1.WarmedH s.vm) {a b : String} (h : Cond.castable a b ∈ lw_tbl) (a' : Array Value) : (Cond.castable a b).before a' s = true := by
  obtain ⟨A0, hA⟩ := C.1
  exact va_Nw.use rfl (va_Nw.warmC hW (va_Nw.of rfl (hA _ h)))
theorem av_wordDc (C : av_ctx cx) (hW : cx.1.WarmedH s.vm) {x : MethodName} (h : Cond.declares x ∈ lw_tbl) (a' : Array Value) : (Cond.declares x).before a' s = true := by
  obtain ⟨A0, hA⟩ := C.1
  have h1 := va_any (A' := #[]) rfl (hA _ h)
  refine va_any (A := #[]) rfl ?_
  have e := Cond.onTables_vm (A := #[]) (A' := #[]) (U := cx.1) (U' := s) s.vm (Cond.declares x) rfl
  have hU : s.setVm s.vm = s := rfl
  rw [hU] at e
  rw [← e, Cond.declares_setVm hW.alike]
  exact h1
theorem av_face (C : av_ctx cx) (hW : cx.1.WarmedH s.vm) {cl : String} {x yy : MethodName} (hx : x.cls ≠ "java/lang/invoke/MethodHandle" ∧ x.cls ≠ "java/lang/invoke/VarHandle") (h1 : Cond.declares x ∈ lw_tbl) (h2 : Cond.interfaceMethod x.cls x.cls x.name x.desc ∈ lw_tbl) (h3 : Cond.publicMethod yy ∈ lw_tbl) (h4 : Cond.unhidden cl x.name x.desc ∈ lw_tbl) (h5 : Cond.castable cl x.cls ∈ lw_tbl) : va_Fw cl x yy s := by
  obtain ⟨A0, hA⟩ := C.1
  exact va_Fw.moved hx hW.alike (va_Fw.of (hA _ h1) (hA _ h2) (hA _ h3) (hA _ h4) (hA _ h5))
/-- an interface's method, at a warmer state -/
theorem av_iface (C : av_ctx cx) (hW : cx.1.WarmedH s.vm) {x : MethodName} (hx : x.cls ≠ "java/lang/invoke/MethodHandle" ∧ x.cls ≠ "java/lang/invoke/VarHandle") (h1 : Cond.declares x ∈ lw_tbl) (h2 : Cond.interfaceMethod x.cls x.cls x.name x.desc ∈ lw_tbl) : (Cond.interfaceMethod x.cls x.cls x.name x.desc).before #[] s = true := by
  obtain ⟨A0, hA⟩ := C.1
  have h1' := hA _ h1
  have h2' := va_any (A' := #[]) rfl (hA _ h2)
  obtain ⟨r, mth, hn, -⟩ := Cond.declares_spec h1'
  have e := Cond.onTables_vm (A := #[]) (A' := #[]) (U := cx.1) (U' := s) s.vm (Cond.interfaceMethod x.cls x.cls x.name x.desc) rfl
  have hU : s.setVm s.vm = s := rfl
  rw [hU] at e
  rw [← e, Cond.interfaceMethod_setVm hW.alike (r := r) hn hx]
  exact h2'
theorem av_s_invokevirtual (C : av_ctx cx) (hF1 : Cond.classLink "StockEvents$Reader" 34 "StockEvents$Fault" ∈ lw_all) (hF2 : Cond.castable "StockEvents$Fault" "StockEvents$Fault" ∈ lw_tbl) (IHd : av_Snd cx l d N) (hfr : d + 1 ≤ R.frames) (hlo : 64 * (d + 1) + 3200 ≤ R.locals) (F : av_Fr cx p s m meth c y) {ix : Nat}
    (ih : av_IH cx p l e R s m args below meth c y o A' kc ks (fun z as A => av_run N d z as A) n) (hd : decode (av_bytes y) pc = .ok (.invokevirtual ix, ln)) (hln : ln = av_len (.invokevirtual ix) ∨ av_len (.invokevirtual ix) = 0) (h : av_stp (fun z as A => av_run N d z as A) y n pc L S A (.invokevirtual ix) = some (o, A')) (J : av_J cx R y A A' H ls L locs cells slots kc ks) :
    W p l e R s m args below meth c H locs cells slots (av_Q cx s below o A' kc ks) (F0 m pc ls (S.map (av_cv cx))) := by
  cases av_ln1 hln (k := 3) rfl (by decide)
  have F0' := F
  obtain ⟨hx, hb, hr, hlocks, hml, hown, hW0, hini, -⟩ := F
  simp only [av_stp, av_step] at h
  split at h
  · next z hz =>
    split at h
    · next as b S1 hpop =>
      split at h
      · next k fo hc =>
        split at h
        · next z' hsl =>
          split at h
          · next hcond =>
            obtain ⟨hlen, hitf⟩ := hcond
            obtain ⟨hst, hal⟩ := av_pop_map cx hpop
            obtain ⟨q, hq, cell, h1, h2, h3, h4, h5⟩ := J.1.at hc
            have hobj : ∀ z, cell.vm ≠ .statics z := fun z hz => by rw [hz] at h2; cases h2
            rw [hst]
            rw [show (Value.ref b :: S1).map (av_cv cx) = av_sg cx b :: S1.map (av_cv cx) from rfl, hq]
            have hasv : ((Value.ref b :: as).map (av_cv cx)).toArray = (Value.ref q :: as.map (av_cv cx)).toArray := by
              rw [show (Value.ref b :: as).map (av_cv cx) = av_sg cx b :: as.map (av_cv cx) from rfl, hq]
            have hnest : ∀ {xx : MethodName} {hh : String}, Cond.methodLinkNest (av_on (av_own y)) ix xx hh ∈ lw_tbl → ∀ a' : Array Value, (Cond.methodLinkNest (av_on (av_own y)) ix xx hh).before a' s = true := fun hw a' => av_wordM C hW0 hw a'
            refine av_w_call (asv := ((Value.ref b :: as).map (av_cv cx)).toArray) (len := 3) C hF1 hF2 F0' (av_exec_le (fun z as A o A' h => av_run_le _ _ _ _ _ _ _ h) y) (fun z as A o A' h => av_run_le _ _ _ _ _ _ _ h) ih h J (fun o1 A1 hrun hcc hss T hT X => ?_)
            have key : ∃ (vm' : Vm) (mk : MethodId), z' < av_nY ∧ z' ≠ 0 ∧ s.methodNamed? (av_yn z') = some mk ∧ s.WarmedH vm' ∧ ∀ target, (∀ acts, Steps p.tables e below (doInvoke e ((T.setVm vm').setTop (F0 m pc ls (S1.map (av_cv cx)))) acts mk (Value.ref q :: as.map (av_cv cx)).toArray).1 target) → Steps p.tables e below (T.setTop (F0 m pc ls ((as.map (av_cv cx)).reverse ++ Value.ref q :: S1.map (av_cv cx)))) target := by
              obtain ⟨-, hkind⟩ := av_inSel hsl
              rcases hkind with hk | hk | hk | hk
              · obtain ⟨hkN, -, rfl, hzN, hz0, hsw, hiw⟩ := hk
                have hk1 : k < 100 := Nat.lt_of_lt_of_le hkN (by decide)
                have hy := av_okYs hzN
                have hxl : av_xn z' = av_yn z' := av_xn_lt (Nat.lt_of_lt_of_le hzN (by decide))
                obtain ⟨mk, methM, hnamed, hmethM, hstM, habM⟩ := Cond.instanceMethod_spec (av_wordT C hW0 hiw rfl args)
                rw [hxl] at hnamed
                obtain ⟨methk, ck, hmk, -, -, -, -, -, hsig, -⟩ := av_found C hW0 hzN hz0 hnamed
                cases hmk.symm.trans hmethM
                obtain ⟨c2, r2, m2, q1, q2, q3, q4, kP, hkP, hkPi⟩ := Cond.selects_spec (av_wordT C hW0 hsw rfl args)
                obtain ⟨-, hfc, -⟩ := av_kn C hW0 hkN
                cases hfc.symm.trans q1
                rw [hxl] at q2 q3
                cases (State.methodFound?_of_named hnamed ⟨hy.2.2.1, hy.2.2.2.1⟩).symm.trans q2
                cases hnamed.symm.trans q3
                have hcl := (h5.1 hk1).2.1
                have hselP : selectMethod e.platform s.vm cell.cls mk = .method mk := by rw [Launch.admits_selectMethod X.admits, hcl]; exact q4
                rcases av_inM hz with hw | hw
                · rw [hxl] at hw
                  obtain ⟨vm₁, X₁, hstep₁⟩ := X.invokevirtual hx hown (av_wordT C hW0 hw rfl args) hnamed hmethM hstM hkP hkPi ⟨hy.2.2.1, hy.2.2.2.1⟩ (a := q) (cell := cell) (by rw [hT]; exact h1) hobj hselP hmethM habM hkP hkPi (g := F0 m pc ls ((as.map (av_cv cx)).reverse ++ Value.ref q :: S1.map (av_cv cx))) rfl (by rw [List.length_map, hal]; exact av_plen hzN _ hsig) rfl (by rw [hb]; exact hd)
                  exact ⟨vm₁, mk, hzN, hz0, hnamed, X₁.warmed, hstep₁⟩
                · obtain ⟨hw, -⟩ := hw
                  rw [hxl] at hw
                  obtain ⟨vm₁, X₁, hstep₁⟩ := X.invokevirtualNest hx hown (hnest hw args) hnamed hmethM hstM hkP hkPi ⟨hy.2.2.1, hy.2.2.2.1⟩ (a := q) (cell := cell) (by rw [hT]; exact h1) hobj hselP hmethM habM hkP hkPi (g := F0 m pc ls ((as.map (av_cv cx)).reverse ++ Value.ref q :: S1.map (av_cv cx))) rfl (by rw [List.length_map, hal]; exact av_plen hzN _ hsig) rfl (by rw [hb]; exact hd)
                  exact ⟨vm₁, mk, hzN, hz0, hnamed, X₁.warmed, hstep₁⟩
              · obtain ⟨hnest0, hkN, -, hzN, hz0, owner, howner, hpl, hsm, hdc, hsw, hiw⟩ := hk
                have hk1 : k < 100 := Nat.lt_of_lt_of_le hkN (by decide)
                have hdecl : va_Decl s ⟨owner, (av_xn z).name, (av_xn z).desc⟩ := by
                  rcases hdc with hdc | ⟨dn, hdN, hd0, hdR, hdn, hdi⟩
                  · obtain ⟨r0, r, g1, g2, g3, g4⟩ := Cond.declares_spec (av_wordDc C hW0 hdc args)
                    exact ⟨r0, r, g1, g2, g3, g4⟩
                  · have hcode := av_code C hW0 hdN hd0 hdR args
                    rw [hdn] at hcode
                    exact va_Decl.of (av_wordT C hW0 hdi rfl args) hcode
                obtain ⟨r0, r, hn, hrm, hstR, hsigR⟩ := hdecl
                have hsame := av_wordT C hW0 hsm rfl args
                obtain ⟨cn, ck, r1, hcn, hck, hni, hf, hn1⟩ := Cond.sameMethod_found hsame
                cases hn.symm.trans hn1
                obtain ⟨mk, methM, hnamed, hmethM, -, habM⟩ := Cond.instanceMethod_spec (av_wordT C hW0 hiw rfl args)
                obtain ⟨c2, r2, m2, q1, q2, q3, q4, kP, hkP, hkPi⟩ := Cond.selects_spec (av_wordT C hW0 hsw rfl args)
                obtain ⟨-, hfc, -⟩ := av_kn C hW0 hkN
                cases hfc.symm.trans q1
                cases hf.symm.trans q2
                cases hnamed.symm.trans q3
                have hcl := (h5.1 hk1).2.1
                have hselP : selectMethod e.platform s.vm cell.cls r0 = .method mk := by rw [Launch.admits_selectMethod X.admits, hcl]; exact q4
                have hw : Cond.methodLink (av_on (av_own y)) ix (av_xn z) ∈ lw_tbl := by
                  rcases av_inM hz with hw | hw
                  · exact hw
                  · exact absurd (hw.2.2.2.symm.trans hnest0) (by decide)
                obtain ⟨vm₁, X₁, hstep₁⟩ := X.invokevirtualUp hx hown (av_wordT C hW0 hw rfl args) hsame howner hn hrm hstR (a := q) (cell := cell) (by rw [hT]; exact h1) hobj hselP hmethM habM hkP hkPi (g := F0 m pc ls ((as.map (av_cv cx)).reverse ++ Value.ref q :: S1.map (av_cv cx))) rfl (by rw [List.length_map, hal]; rw [hsigR] at hpl; exact (Option.some.inj hpl).symm) rfl (by rw [hb]; exact hd)
                exact ⟨vm₁, mk, hzN, hz0, hnamed, X₁.warmed, hstep₁⟩
              · rw [hitf] at hk
                cases hk.2.2.1
              · rw [hitf] at hk
                cases hk.2.2.1
            obtain ⟨vm', mk, hzN, hz0, hn, hW', hstep⟩ := key
            have X' := X.noted hW'
            refine ⟨vm', mk, fun target ht => hstep target (fun acts => by rw [← hasv]; exact ht acts), ?_⟩
            exact av_callZ C IHd X' hx (hW0.trans hW') (g := F0 m pc ls (S1.map (av_cv cx))) rfl (J.2.1.1.trans hml.symm) rfl (av_sum_le cx S1 12 hlen) (by rw [hb]; exact hd) hzN hz0 (X'.named hn) hrun (by show av_rel cx A T.heap; rw [hT]; exact J.1) hfr hlo hcc hss
          · cases h
        · cases h
      · cases h
    · cases h
  · cases h
theorem av_s_invokeinterface (C : av_ctx cx) (hF1 : Cond.classLink "StockEvents$Reader" 34 "StockEvents$Fault" ∈ lw_all) (hF2 : Cond.castable "StockEvents$Fault" "StockEvents$Fault" ∈ lw_tbl) (IHd : ∀ d', d' ≤ d → av_Snd cx l d' N) (hfr : d + 1 ≤ R.frames) (hlo : 64 * (d + 1) + 3200 ≤ R.locals) (F : av_Fr cx p s m meth c y) {ix cnt : Nat}
    (ih : av_IH cx p l e R s m args below meth c y o A' kc ks (fun z as A => av_run N d z as A) n) (hd : decode (av_bytes y) pc = .ok (.invokeinterface ix cnt, ln)) (hln : ln = av_len (.invokeinterface ix cnt) ∨ av_len (.invokeinterface ix cnt) = 0) (h : av_stp (fun z as A => av_run N d z as A) y n pc L S A (.invokeinterface ix cnt) = some (o, A')) (J : av_J cx R y A A' H ls L locs cells slots kc ks) :
    W p l e R s m args below meth c H locs cells slots (av_Q cx s below o A' kc ks) (F0 m pc ls (S.map (av_cv cx))) := by
  cases av_ln1 hln (k := 5) rfl (by decide)
  have F0' := F
  obtain ⟨hx, hb, hr, hlocks, hml, hown, hW0, hini, -⟩ := F
  simp only [av_stp, av_step] at h
  split at h
  · next z hz =>
    split at h
    · next as b S1 hpop =>
      split at h
      · next k fo hc =>
        split at h
        · next z' hsl =>
          split at h
          · next hcond =>
            obtain ⟨hlen, hitf⟩ := hcond
            obtain ⟨hst, hal⟩ := av_pop_map cx hpop
            obtain ⟨q, hq, cell, h1, h2, h3, h4, h5⟩ := J.1.at hc
            have hobj : ∀ z, cell.vm ≠ .statics z := fun z hz => by rw [hz] at h2; cases h2
            rw [hst]
            rw [show (Value.ref b :: S1).map (av_cv cx) = av_sg cx b :: S1.map (av_cv cx) from rfl, hq]
            have hasv : ((Value.ref b :: as).map (av_cv cx)).toArray = (Value.ref q :: as.map (av_cv cx)).toArray := by
              rw [show (Value.ref b :: as).map (av_cv cx) = av_sg cx b :: as.map (av_cv cx) from rfl, hq]
            obtain ⟨kcl, hkcl⟩ : ∃ kcell, s.vm.classes[cell.cls]? = some kcell := av_objcls C hW0 (ob := (k, fo)) h5
            refine av_w_call (asv := ((Value.ref b :: as).map (av_cv cx)).toArray) (len := 5) C hF1 hF2 F0' (av_exec_le (fun z as A o A' h => av_run_le _ _ _ _ _ _ _ h) y) (fun z as A o A' h => av_run_le _ _ _ _ _ _ _ h) ih h J (fun o1 A1 hrun hcc hss T hT X => ?_)
            obtain ⟨-, hkind⟩ := av_inSel hsl
            rcases hkind with hk | hk | hk | hk
            · rw [hitf] at hk
              cases hk.2.1
            · rw [hitf] at hk
              cases hk.2.2.1
            · obtain ⟨hnest0, hkN, -, hzN, hz0, hxx, hpl, hdc, hif, hsw, hiw, hpu, hun, hca⟩ := hk
              have hk1 : k < 100 := Nat.lt_of_lt_of_le hkN (by decide)
              have hcl := (h5.1 hk1).2.1
              obtain ⟨-, hfc, -⟩ := av_kn C hW0 hkN
              rw [← hcl] at hfc
              obtain ⟨f1, f2, f3, f4, f5⟩ := av_face C hW0 hxx hdc hif hpu hun hca
              obtain ⟨r0, r, hn, hrm, hstR, hsigR⟩ := Cond.declares_spec f1
              obtain ⟨cL, kL, r1, hcL, hkL, hiL, hfoundL, hn1⟩ := Cond.interfaceMethod_spec f2
              cases hn.symm.trans hn1
              have hr0cls : r0.cls = cL := Option.some.inj ((findClass_of_methodNamed hn).symm.trans hcL)
              obtain ⟨hnameR, hdescR⟩ := name_of_methodNamed hn hrm
              obtain ⟨mk, methM, hnamed, hmethM, -, habM⟩ := Cond.instanceMethod_spec (av_wordT C hW0 hiw rfl args)
              obtain ⟨c2, r2, m2, q1, q2, q3, q4, -⟩ := Cond.selects_spec (av_wordT C hW0 hsw rfl args)
              cases hfc.symm.trans q1
              cases hfoundL.symm.trans q2
              cases hnamed.symm.trans q3
              have hselP : selectMethod e.platform s.vm cell.cls r0 = .method mk := by rw [Launch.admits_selectMethod X.admits]; exact q4
              have hpubM : hasFlag methM.accessFlags Acc.public_ = true := Cond.publicMethod_spec hnamed hmethM f3
              have hway : ((cell.cls :: s.vm.superclasses cell.cls).any fun k => (declaredIn s.vm r.name r.desc k).any fun (_, z) => z.isPrivate || z.isStatic) = false := by
                rw [hnameR, hdescR]; exact Cond.unhidden_spec hfc f4
              obtain ⟨c3, t3, w1, w2, w3⟩ := Cond.castable_spec f5
              cases hfc.symm.trans w1
              cases hcL.symm.trans w2
              have hw : Cond.methodLink (av_on (av_own y)) ix (av_xn z) ∈ lw_tbl := by
                rcases av_inM hz with hw | hw
                · exact hw
                · exact absurd (hw.2.2.2.symm.trans hnest0) (by decide)
              obtain ⟨vm₁, X₁, hstep₁⟩ := X.invokeinterface hx hown (av_wordT C hW0 hw rfl args) hn hrm hstR (by rw [hr0cls]; exact hkL) hiL hxx (a := q) (cell := cell) (kcell := kcl) (by rw [hT]; exact h1) hobj hkcl (by rw [hr0cls]; exact w3) hselP hmethM hway hpubM habM (g := F0 m pc ls ((as.map (av_cv cx)).reverse ++ Value.ref q :: S1.map (av_cv cx))) rfl (by rw [List.length_map, hal]; rw [hsigR] at hpl; exact (Option.some.inj hpl).symm) rfl (by rw [hb]; exact hd)
              refine ⟨vm₁, mk, fun target ht => hstep₁ target (fun acts => by rw [← hasv]; exact ht acts), ?_⟩
              exact av_callZ C (IHd d (Nat.le_refl _)) X₁ hx (hW0.trans X₁.warmed) (g := F0 m pc ls (S1.map (av_cv cx))) rfl (J.2.1.1.trans hml.symm) rfl (av_sum_le cx S1 12 hlen) (by rw [hb]; exact hd) hzN hz0 (X₁.named hnamed) hrun (by show av_rel cx A T.heap; rw [hT]; exact J.1) hfr hlo hcc hss
            · obtain ⟨hnest0, hk1, -, rfl, hjN, hxx, hpl, hxi, hxn, hxd, hdc, hif⟩ := hk
              obtain ⟨-, hvm, hcls, -⟩ := h5.2 hk1
              obtain ⟨r0, r, hn, hrm, hstR, hsigR⟩ := Cond.declares_spec (av_wordDc C hW0 hdc args)
              obtain ⟨cL, kL, r1, hcL, hkL, hiL, hfoundL, hn1⟩ := Cond.interfaceMethod_spec (av_iface C hW0 hxx hdc hif)
              cases hn.symm.trans hn1
              have hr0cls : r0.cls = cL := Option.some.inj ((findClass_of_methodNamed hn).symm.trans hcL)
              obtain ⟨hnameR, hdescR⟩ := name_of_methodNamed hn hrm
              obtain ⟨kk, file, methk, ck, tgt, tk, hkk, hkn, hfile, hpool, hmk, hck, hbytes, hmlk, hlk, hacc, hsig, hexc, -, -, -, -, -, -, -, hseld, hway, -⟩ := lm_made C hW0 hjN
              rw [← hxi, ← hxn, ← hxd] at hseld
              rw [← hxn, ← hxd] at hway
              rw [← hcls] at hseld hway hmk
              have hfc2 : s.vm.findClass (av_xn z).cls = some r0.cls := by rw [hr0cls]; exact hcL
              obtain ⟨hsel, hasg⟩ := hseld r0 hfoundL ⟨kL, by rw [hr0cls]; exact hkL, hiL⟩ hfc2
              have hselP : selectMethod e.platform s.vm cell.cls r0 = .method ⟨cell.cls, 1⟩ := by rw [Launch.admits_selectMethod X.admits]; exact hsel
              have hw : Cond.methodLink (av_on (av_own y)) ix (av_xn z) ∈ lw_tbl := by
                rcases av_inM hz with hw | hw
                · exact hw
                · exact absurd (hw.2.2.2.symm.trans hnest0) (by decide)
              obtain ⟨vm₁, X₁, hstep₁⟩ := X.invokeinterface hx hown (av_wordT C hW0 hw rfl args) hn hrm hstR (by rw [hr0cls]; exact hkL) hiL hxx (a := q) (cell := cell) (kcell := kcl) (by rw [hT]; exact h1) hobj hkcl hasg hselP hmk (by rw [hnameR, hdescR]; exact hway) (by rw [hacc]; decide) (by simp [Method.isAbstract, hacc, hasFlag, Acc.abstract]) (g := F0 m pc ls ((as.map (av_cv cx)).reverse ++ Value.ref q :: S1.map (av_cv cx))) rfl (by rw [List.length_map, hal]; rw [hsigR] at hpl; exact (Option.some.inj hpl).symm) rfl (by rw [hb]; exact hd)
              refine ⟨vm₁, ⟨cx.2.2.1 (k - 100), 1⟩, fun target ht => hstep₁ target (fun acts => by rw [← hasv, hcls]; exact ht acts), ?_⟩
              cases d with
              | zero => exact absurd hrun (by simp [av_run])
              | succ d =>
                exact av_callL C (IHd d (Nat.le_succ _)) X₁ hx (hW0.trans X₁.warmed) (g := F0 m pc ls (S1.map (av_cv cx))) rfl (J.2.1.1.trans hml.symm) rfl (av_sum_le cx S1 12 hlen) (by rw [hb]; exact hd) hjN hq hrun (by show av_rel cx A T.heap; rw [hT]; exact J.1) (by omega) (by omega) hcc hss
          · cases h
        · cases h
      · cases h
    · cases h
  · cases h
end SNG

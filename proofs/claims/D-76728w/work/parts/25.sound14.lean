/-! ===== SOUNDNESS, 15: whole bodies, whole runs ===== -/
theorem av_fetchS {y pc : Nat} {i : Instr} (h : av_fetch y pc = some i) : av_sti (av_ml y) pc i = true := by
  unfold av_fetch at h
  cases hq : av_prs[y]? with
  | none => rw [hq] at h; cases h
  | some q =>
    rw [hq] at h
    dsimp only at h
    rw [Option.map_eq_some_iff] at h
    obtain ⟨r, hr, rfl⟩ := h
    have hm := av_look_mem hr
    have hy : y < av_prs.length := (List.getElem?_eq_some_iff.mp hq).1
    have hl : y < av_mlL.length := by rw [← av_okS.2]; exact hy
    have hz : (av_prs.zip av_mlL)[y]? = some (q, av_mlL[y]) := by
      rw [List.getElem?_zip_eq_some]
      exact ⟨hq, List.getElem?_eq_getElem hl⟩
    have hk := av_okS.1
    rw [List.all_eq_true] at hk
    have hk := hk _ (List.mem_of_getElem? hz)
    rw [List.all_eq_true] at hk
    have hk := hk _ hm
    have e : av_ml y = av_mlL[y] := by
      unfold av_ml
      rw [List.getElem?_eq_getElem hl]
      rfl
    rw [e]
    exact hk
section BOD
variable {cx : av_X} {p : Program} {l : Launch} {e : Env} {R : Room} {s : State} {m : MethodId} {args : Array Value} {below : List Frame} {meth : Method} {c : Code} {y : Nat} {o : av_R} {A' : av_H} {kc ks : Nat} {d N : Nat}
theorem av_body (C : av_ctx cx) (IHd : ∀ d', d' ≤ d → av_Snd cx l d' N) (hfr : d + 1 ≤ R.frames) (hlo : 64 * (d + 1) + 3200 ≤ R.locals) (F : av_Fr cx p s m meth c y) : ∀ n, av_IH cx p l e R s m args below meth c y o A' kc ks (fun z as A => av_run N d z as A) n := by
  intro n
  induction n with
  | zero => intro pc L S A h; exact absurd h (by simp [av_exec])
  | succ n ih =>
    intro pc L S A h H ls locs cells slots J
    rw [av_exec_succ] at h
    cases hf : av_fetch y pc with
    | none => rw [hf] at h; cases h
    | some i =>
    rw [hf] at h
    obtain ⟨ln, hd, hln⟩ := av_dec hf
    have hst := av_fetchS hf
    have h : av_stp (fun z as A => av_run N d z as A) y n pc L S A i = some (o, A') := h
    have hsz : ∀ n pc L S A o A', av_exec (fun z as A => av_run N d z as A) y n pc L S A = some (o, A') → av_le A A' := av_exec_le (fun z as A o A' h => av_run_le _ _ _ _ _ _ _ h) y
    cases i with
    | iadd => exact av_s_iadd F ih hd hln h J
    | isub => exact av_s_isub F ih hd hln h J
    | imul => exact av_s_imul F ih hd hln h J
    | ineg => exact av_s_ineg F ih hd hln h J
    | iand => exact av_s_iand F ih hd hln h J
    | ior => exact av_s_ior F ih hd hln h J
    | ixor => exact av_s_ixor F ih hd hln h J
    | ishl => exact av_s_ishl F ih hd hln h J
    | ishr => exact av_s_ishr F ih hd hln h J
    | ladd => exact av_s_ladd F ih hd hln h J
    | lsub => exact av_s_lsub F ih hd hln h J
    | lmul => exact av_s_lmul F ih hd hln h J
    | lneg => exact av_s_lneg F ih hd hln h J
    | land => exact av_s_land F ih hd hln h J
    | iushr => exact av_s_iushr F ih hd hln h J
    | i2l => exact av_s_i2l F ih hd hln h J
    | l2i => exact av_s_l2i F ih hd hln h J
    | i2b => exact av_s_i2b F ih hd hln h J
    | i2c => exact av_s_i2c F ih hd hln h J
    | lcmp => exact av_s_lcmp F ih hd hln h J
    | idiv => exact av_s_idiv F ih hd hln h J
    | irem => exact av_s_irem F ih hd hln h J
    | ldiv => exact av_s_ldiv F ih hd hln h J
    | lrem => exact av_s_lrem F ih hd hln h J
    | aconst_null => exact av_s_aconst_null F ih hd hln h J
    | dup => exact av_s_dup F ih hd hln h J
    | pop => exact av_s_pop F ih hd hln h J
    | dup_x1 => exact av_s_dup_x1 F ih hd hln h J
    | dup_x2 => exact av_s_dup_x2 F ih hd hln h J
    | dup2 => exact av_s_dup2 F ih hd hln h J
    | iconst k => exact av_s_iconst F ih hd hln h J
    | bipush k => exact av_s_bipush F ih hd hln h J
    | sipush k => exact av_s_sipush F ih hd hln h J
    | lconst k => exact av_s_lconst F ih hd hln h J
    | iload k => exact av_s_iload F ih hd hln h J
    | iload_n k => exact av_s_iload_n F ih hd hln h J
    | lload k => exact av_s_lload F ih hd hln h J
    | lload_n k => exact av_s_lload_n F ih hd hln h J
    | aload k => exact av_s_aload F ih hd hln h J
    | aload_n k => exact av_s_aload_n F ih hd hln h J
    | goto k => exact av_s_goto F ih hd hln h J
    | ifnull k => exact av_s_ifnull F ih hd hln h J
    | ifnonnull k => exact av_s_ifnonnull F ih hd hln h J
    | iinc k i => exact av_s_iinc F ih hd hln h J
    | astore k => exact av_s_astore F ih hd hln h J (of_decide_eq_true hst)
    | istore k => exact av_s_istore F ih hd hln h J (of_decide_eq_true hst)
    | lstore k => exact av_s_lstore F ih hd hln h J (of_decide_eq_true hst)
    | astore_n k => exact av_s_astore_n F ih hd hln h J (of_decide_eq_true hst)
    | istore_n k => exact av_s_istore_n F ih hd hln h J (of_decide_eq_true hst)
    | lstore_n k => exact av_s_lstore_n F ih hd hln h J (of_decide_eq_true hst)
    | ifCond cnd k => exact av_s_ifCond F ih hd hln h J (of_decide_eq_true hst)
    | if_icmp cnd k => exact av_s_if_icmp F ih hd hln h J (of_decide_eq_true hst)
    | if_acmp cnd k => exact av_s_if_acmp (of_decide_eq_true hst) F ih hd hln h J
    | tableswitch dflt lo hi offs => exact av_s_tableswitch F ih hd hln h J
    | lookupswitch dflt ps => exact av_s_lookupswitch F ih hd hln h J
    | ldc ix => exact av_s_ldc C F ih hd hln h J
    | ldc_w ix => exact av_s_ldc_w C F ih hd hln h J
    | ldc2_w ix => exact av_s_ldc2_w C F ih hd hln h J
    | getstatic ix => exact av_s_getstatic C F ih hd hln h J
    | getfield ix => exact av_s_getfield C F ih hd hln h J
    | putfield ix => exact av_s_putfield C F ih hd hln h J
    | checkcast ix => exact av_s_checkcast C F ih hd hln h J
    | instanceof ix => exact av_s_instanceof C F ih hd hln h J
    | arraylength => exact av_s_arraylength C F ih hd hln h J
    | iaload => exact av_s_iaload C F ih hd hln h J
    | baload => exact av_s_baload C F ih hd hln h J
    | aaload => exact av_s_aaload C F ih hd hln h J
    | iastore => exact av_s_iastore C F ih hd hln h J
    | bastore => exact av_s_bastore C F ih hd hln h J
    | aastore => exact av_s_aastore C F ih hd hln h J
    | ireturn => exact av_s_ireturn C F hf hsz ih hd hln h J
    | lreturn => exact av_s_lreturn C F hf hsz ih hd hln h J
    | return_ => exact av_s_return C F hf hsz ih hd hln h J
    | areturn => exact av_s_areturn C F hf hsz ih hd hln h J
    | new ix => exact av_s_new C F hf hsz ih hd hln h J
    | newarray ty => exact av_s_newarray C F hf hsz ih hd hln h J
    | anewarray ix => exact av_s_anewarray C F hsz ih hd hln h J
    | multianewarray ix dm => exact av_s_multianewarray C F hsz ih hd hln h J
    | athrow => exact av_s_athrow C av_okF1 av_okF2 F ih hd hln h J
    | invokestatic ix => exact av_s_invokestatic C av_okF1 av_okF2 (IHd d (Nat.le_refl _)) hfr hlo F (fun hz h => av_arraycopy C (by omega) (by omega) F ih hd hln J hz h) ih hd hln h J
    | invokespecial ix => exact av_s_invokespecial C av_okF1 av_okF2 (IHd d (Nat.le_refl _)) hfr hlo F av_okO1 av_okO2 av_okO3 ih hd hln h J
    | invokevirtual ix => exact av_s_invokevirtual C av_okF1 av_okF2 (IHd d (Nat.le_refl _)) hfr hlo F ih hd hln h J
    | invokeinterface ix cnt => exact av_s_invokeinterface C av_okF1 av_okF2 IHd hfr hlo F ih hd hln h J
    | invokedynamic ix => exact av_s_invokedynamic C (by omega) F hf hsz ih hd hln h J
    | _ => exact absurd h (by simp [av_stp, av_step])
end BOD
theorem av_wid_sl (vs : List Value) : (lg_sl vs).length = av_wid vs := by
  induction vs with
  | nil => rfl
  | cons v t ih =>
    simp only [lg_sl, List.flatMap_cons, List.length_append] at ih ⊢
    rw [ih]
    rw [show av_wid (v :: t) = (if v.category = 2 then 2 else 1) + av_wid t from rfl]
    by_cases h : v.category = 2
    · rw [if_pos h, if_pos h]; rfl
    · rw [if_neg h, if_neg h]; rfl
theorem av_wid_cv (cx : av_X) (vs : List Value) : av_wid (vs.map (av_cv cx)) = av_wid vs := by
  induction vs with
  | nil => rfl
  | cons v t ih =>
    simp only [List.map_cons, av_wid, av_cat, ih]
theorem av_ent_args (cx : av_X) (vs : List Value) : ∀ (k i : Nat) (v : Value), av_lget (av_ent k vs) i = some v → (i, av_cv cx v) ∈ lv_args k (vs.map (av_cv cx)) := by
  induction vs with
  | nil => intro k i v h; cases h
  | cons w t ih =>
    intro k i v h
    simp only [av_ent, av_lget] at h
    simp only [List.map_cons, lv_args, av_cat]
    by_cases e : k = i
    · rw [if_pos e] at h
      cases h
      subst e
      exact List.mem_cons_self ..
    · rw [if_neg e] at h
      exact List.mem_cons_of_mem _ (ih _ _ _ h)
theorem av_sound {cx : av_X} (C : av_ctx cx) (l : Launch) (N : Nat) : ∀ d, av_Snd cx l d N := by
  intro d
  induction d using Nat.strongRecOn with
  | ind d ih =>
    cases d with
    | zero => intro z as A o A' hz h; exact absurd h (by simp [av_run])
    | succ d =>
      intro z as A o A' hz hrun p e R s m below meth c F hfr hlo H hrel hc hs
      simp only [av_run] at hrun
      rw [if_pos hz] at hrun
      split at hrun
      · next hw =>
        have hb := av_body (e := e) (args := (as.map (av_cv cx)).toArray) (below := below) (o := o) (A' := A') (kc := A'.1 - A.1) (ks := A'.2.1 - A.2.1) C (fun d' hd' => ih d' (by omega)) hfr hlo F N
        rw [lg_entry_eq]
        have hl := lv_entry (as.map (av_cv cx)) (n := av_ml z) (by rw [av_wid_sl, av_wid_cv]; exact hw)
        generalize (lg_sl (as.map (av_cv cx)) ++ List.replicate (av_ml z - (lg_sl (as.map (av_cv cx))).length) Slot.unset).toArray = ls at hl ⊢
        exact hb 0 (av_ent 0 as) [] A hrun H ls [] 0 0 ⟨hrel, ⟨hl.1, hl.2.1, fun i v hi => hl.2.2 (i, av_cv cx v) (av_ent_args cx as 0 i v hi)⟩, (fun z hz => by cases hz), (by omega), (by omega), hc, hs⟩
      · cases hrun

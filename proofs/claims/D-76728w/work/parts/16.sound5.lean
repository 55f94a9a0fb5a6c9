/-! ===== SOUNDNESS, 6: sizes, answers, what is made, casts ===== -/
theorem av_le.rf (A : av_H) : av_le A A := ⟨Nat.le_refl _, Nat.le_refl _⟩
theorem av_le.tr {A B D : av_H} (h : av_le A B) (h' : av_le B D) : av_le A D := ⟨Nat.le_trans h.1 h'.1, Nat.le_trans h.2 h'.2⟩
theorem av_step_pred {α : Type} (P : α → av_H → Prop) {bad : α} {go : Nat → av_L → List Value → av_H → α} {ret : Option Value → av_H → α} {thr : Nat → av_H → α} {call : Nat → List Value → av_H → (Option Value → av_H → α) → α}
    (hm : ∀ a A B, av_le A B → P a B → P a A) (hb : ∀ A, P bad A) (hgo : ∀ pc L S A, P (go pc L S A) A) (hret : ∀ v A, P (ret v A) A) (hthr : ∀ q A, P (thr q A) A) (hcall : ∀ z as A k, (∀ v A1, P (k v A1) A1) → P (call z as A k) A)
    (y pc : Nat) (L : av_L) (S : List Value) (A : av_H) (ins : Instr) : P (av_step bad go ret thr call y pc L S A ins) A := by
  have hset : ∀ pc L S a c, P (go pc L S (av_set A a c)) A := fun pc L S a c => hm _ A (av_set A a c) ⟨Nat.le_refl _, Nat.le_refl _⟩ (hgo pc L S (av_set A a c))
  have hnew : ∀ pc L S n c, P (go pc L S (av_new A n c)) A := fun pc L S n c => hm _ A (av_new A n c) ⟨Nat.le_succ _, Nat.le_add_right _ _⟩ (hgo pc L S (av_new A n c))
  unfold av_step
  cases ins <;> simp only [av_jmp] <;>
    (repeat' first
      | exact hb _
      | exact hgo _ _ _ _
      | exact hret _ _
      | exact hthr _ _
      | exact hset _ _ _ _ _
      | exact hnew _ _ _ _ _
      | (refine hcall _ _ _ _ fun v A => hgo _ _ _ _)
      | (refine hm _ _ _ ⟨?_, ?_⟩ (hgo _ _ _ _) <;> dsimp only <;> omega)
      | split)
theorem av_exec_le {R0 : Nat → List Value → av_H → Option (av_R × av_H)} (hR : ∀ z as A o A', R0 z as A = some (o, A') → av_le A A') (y : Nat) : ∀ n pc L S A o A', av_exec R0 y n pc L S A = some (o, A') → av_le A A' := by
  intro n
  induction n with
  | zero => intro pc L S A o A' h; exact absurd h (by simp [av_exec])
  | succ n ih =>
    intro pc L S A o A' h
    rw [av_exec_succ] at h
    cases hf : av_fetch y pc with
    | none => rw [hf] at h; cases h
    | some i =>
      rw [hf] at h
      dsimp only at h
      revert h
      refine av_step_pred (fun (a : Option (av_R × av_H)) A => a = some (o, A') → av_le A A') (fun a A B hab hB h => hab.tr (hB h)) (fun A h => by cases h) (fun pc L S A h => ih _ _ _ _ _ _ h) (fun v A h => by cases h; exact av_le.rf _) (fun q A => ?_) (fun z as A k hk => ?_) y pc L S A i
      · cases av_hnd y pc with
        | none => intro h; cases h; exact av_le.rf _
        | some hh =>
          dsimp only
          split
          · exact fun h => ih _ _ _ _ _ _ h
          · intro h; cases h
      · cases hz : R0 z as A with
        | none => intro h; cases h
        | some x =>
          obtain ⟨o1, A1⟩ := x
          have h1 := hR _ _ _ _ _ hz
          cases o1 with
          | inl v => exact fun h => h1.tr (hk v A1 h)
          | inr q =>
            dsimp only
            cases av_hnd y pc with
            | none => intro h; cases h; exact h1
            | some hh =>
              dsimp only
              split
              · exact fun h => h1.tr (ih _ _ _ _ _ _ h)
              · intro h; cases h
theorem av_run_le : ∀ d N z as A o A', av_run N d z as A = some (o, A') → av_le A A' := by
  intro d
  induction d with
  | zero => intro N z as A o A' h; exact absurd h (by simp [av_run])
  | succ d ih =>
    intro N z as A o A' h
    unfold av_run at h
    by_cases hz : z < 2000
    · rw [if_pos hz] at h
      split at h
      · exact av_exec_le (fun z as A o A' h => ih N z as A o A' h) z N _ _ _ _ _ _ h
      · cases h
    · rw [if_neg hz] at h
      revert h
      split
      · split
        · split
          · split
            · exact fun h => ih _ _ _ _ _ _ h
            · intro h; cases h
          · intro h; cases h
        · intro h; cases h
      · intro h; cases h
section SNE
variable {cx : av_X} {p : Program} {l : Launch} {e : Env} {R : Room} {s : State} {m : MethodId} {args : Array Value} {below : List Frame} {meth : Method} {c : Code} {y : Nat} {o : av_R} {A' : av_H} {kc ks : Nat} {R0 : Nat → List Value → av_H → Option (av_R × av_H)}
variable {n pc ln : Nat} {L : av_L} {S : List Value} {A : av_H} {H : Heap} {ls : Array Slot} {locs : List Loc} {cells slots : Nat}
theorem av_rt_of {i : Instr} (h : av_fetch y pc = some i) : av_rt y = match av_rty y with | none => 0 | some ty => av_tc ty := by
  have hy : y < av_prs.length := by
    unfold av_fetch at h
    cases hq : av_prs[y]? with
    | none => rw [hq] at h; cases h
    | some q => exact (List.getElem?_eq_some_iff.mp hq).1
  rw [av_okR.2] at hy
  have hk := av_okR.1
  rw [List.all_eq_true] at hk
  exact of_decide_eq_true (hk y (List.mem_range.mpr hy))
theorem av_okR2 : (List.range 418).all (fun y => match av_rty y with | none => true | some ty => decide (av_tc ty ≠ 0)) = true := by decide +kernel
theorem av_rt_nz {i : Instr} (h : av_fetch y pc = some i) {ty : FieldType} (hty : av_rty y = some ty) : ¬ (match some ty with | none => 0 | some ty => av_tc ty) = 0 := by
  have hy : y < av_prs.length := by
    unfold av_fetch at h
    cases hq : av_prs[y]? with
    | none => rw [hq] at h; cases h
    | some q => exact (List.getElem?_eq_some_iff.mp hq).1
  rw [av_okR.2] at hy
  have hk := av_okR2
  rw [List.all_eq_true] at hk
  have hk := hk y (List.mem_range.mpr hy)
  rw [hty] at hk
  exact of_decide_eq_true hk
theorem av_done {v : Option Value} {w : Option Value} {g : JFrame} (hrel : av_rel cx A H) (hc : cells ≤ kc) (hs : slots ≤ ks) (hw : w = v.map (av_cv cx)) (k : W p l e R s m args below meth c H locs cells slots (MQ below (fun _ _ o' t => o' = .returned w ∧ t.heap = H) args s cells slots (fun q => cx.1.heap.size ≤ q)) g) :
    W p l e R s m args below meth c H locs cells slots (av_Q cx s below (.inl v) A kc ks) g := by
  refine av_conseq (fun t ht => ?_) k
  obtain ⟨o', h1, h2, ⟨h3, h4⟩, L, ⟨h5, h6, h7⟩, h8⟩ := ht
  exact ⟨o', h1, h2, by rw [h3, hw], by rw [h4]; exact hrel, h6, L, h7.mono hc hs, h8⟩
theorem av_s_ireturn (C : av_ctx cx) (F : av_Fr cx p s m meth c y) (hf : av_fetch y pc = some (.ireturn)) (hsz : ∀ n pc L S A o A', av_exec R0 y n pc L S A = some (o, A') → av_le A A') (ih : av_IH cx p l e R s m args below meth c y o A' kc ks R0 n) (hd : decode (av_bytes y) pc = .ok (.ireturn, ln)) (hln : ln = av_len (.ireturn) ∨ av_len (.ireturn) = 0) (h : av_stp R0 y n pc L S A (.ireturn) = some (o, A')) (J : av_J cx R y A A' H ls L locs cells slots kc ks) : W p l e R s m args below meth c H locs cells slots (av_Q cx s below o A' kc ks) (F0 m pc ls (S.map (av_cv cx))) := by
  cases av_ln1 hln (k := 1) rfl (by decide)
  obtain ⟨hx, hb, hr, hlocks, hml, hown, hW0, hini, -⟩ := F
  simp only [av_stp, av_step] at h
  split at h
  · next v =>
    split at h
    · next hok =>
      cases h
      rw [av_rt_of hf] at hok
      cases hty : av_rty y with
      | none => rw [hty] at hok; exact absurd hok (by simp [av_ok])
      | some ty =>
        rw [hty] at hok hr
        exact av_done (v := some (.int v)) J.1 (by have := J.2.2.2.1; omega) (by have := J.2.2.2.2.1; omega) rfl (W.zret hx hb hr (av_ok_fit (cx := cx) hok).1 (fun t ht _ => ⟨rfl, ht⟩) J.2.2.1 hd hlocks)
    · cases h
  · cases h
theorem av_s_lreturn (C : av_ctx cx) (F : av_Fr cx p s m meth c y) (hf : av_fetch y pc = some (.lreturn)) (hsz : ∀ n pc L S A o A', av_exec R0 y n pc L S A = some (o, A') → av_le A A') (ih : av_IH cx p l e R s m args below meth c y o A' kc ks R0 n) (hd : decode (av_bytes y) pc = .ok (.lreturn, ln)) (hln : ln = av_len (.lreturn) ∨ av_len (.lreturn) = 0) (h : av_stp R0 y n pc L S A (.lreturn) = some (o, A')) (J : av_J cx R y A A' H ls L locs cells slots kc ks) : W p l e R s m args below meth c H locs cells slots (av_Q cx s below o A' kc ks) (F0 m pc ls (S.map (av_cv cx))) := by
  cases av_ln1 hln (k := 1) rfl (by decide)
  obtain ⟨hx, hb, hr, hlocks, hml, hown, hW0, hini, -⟩ := F
  simp only [av_stp, av_step] at h
  split at h
  · next v =>
    split at h
    · next hok =>
      cases h
      rw [av_rt_of hf] at hok
      have hty : av_rty y = some .long := by
        cases hty : av_rty y with
        | none => rw [hty] at hok; exact absurd hok (by decide)
        | some ty => rw [hty] at hok; cases ty <;> first | rfl | exact absurd hok (by simp [av_tc])
      rw [hty] at hr
      exact av_done (v := some (.long v)) J.1 (by have := J.2.2.2.1; omega) (by have := J.2.2.2.2.1; omega) rfl (W.lret hx hb hr (fun t ht _ => ⟨rfl, ht⟩) J.2.2.1 hd hlocks)
    · cases h
  · cases h
theorem av_s_return (C : av_ctx cx) (F : av_Fr cx p s m meth c y) (hf : av_fetch y pc = some (.return_)) (hsz : ∀ n pc L S A o A', av_exec R0 y n pc L S A = some (o, A') → av_le A A') (ih : av_IH cx p l e R s m args below meth c y o A' kc ks R0 n) (hd : decode (av_bytes y) pc = .ok (.return_, ln)) (hln : ln = av_len (.return_) ∨ av_len (.return_) = 0) (h : av_stp R0 y n pc L S A (.return_) = some (o, A')) (J : av_J cx R y A A' H ls L locs cells slots kc ks) : W p l e R s m args below meth c H locs cells slots (av_Q cx s below o A' kc ks) (F0 m pc ls (S.map (av_cv cx))) := by
  cases av_ln1 hln (k := 1) rfl (by decide)
  obtain ⟨hx, hb, hr, hlocks, hml, hown, hW0, hini, -⟩ := F
  simp only [av_stp, av_step] at h
  split at h
  · split at h
    · next hok =>
      cases h
      rw [av_rt_of hf] at hok
      have hty : av_rty y = none := by
        cases hty : av_rty y with
        | none => rfl
        | some ty => rw [hty] at hok; exact absurd hok (av_rt_nz hf hty)
      rw [hty] at hr
      exact av_done (v := none) J.1 (by have := J.2.2.2.1; omega) (by have := J.2.2.2.2.1; omega) rfl (W.vret hx hb hr (fun t ht _ => ⟨rfl, ht⟩) J.2.2.1 hd hlocks)
    · cases h
  · cases h
theorem av_s_areturn (C : av_ctx cx) (F : av_Fr cx p s m meth c y) (hf : av_fetch y pc = some (.areturn)) (hsz : ∀ n pc L S A o A', av_exec R0 y n pc L S A = some (o, A') → av_le A A') (ih : av_IH cx p l e R s m args below meth c y o A' kc ks R0 n) (hd : decode (av_bytes y) pc = .ok (.areturn, ln)) (hln : ln = av_len (.areturn) ∨ av_len (.areturn) = 0) (h : av_stp R0 y n pc L S A (.areturn) = some (o, A')) (J : av_J cx R y A A' H ls L locs cells slots kc ks) : W p l e R s m args below meth c H locs cells slots (av_Q cx s below o A' kc ks) (F0 m pc ls (S.map (av_cv cx))) := by
  cases av_ln1 hln (k := 1) rfl (by decide)
  obtain ⟨hx, hb, hr, hlocks, hml, hown, hW0, hini, -⟩ := F
  simp only [av_stp, av_step] at h
  have href : ∀ h6 : av_rt y = 6, ∃ ty, av_rty y = some ty ∧ ((∃ n, ty = .object n) ∨ ∃ t, ty = .array t) := by
    intro hok
    rw [av_rt_of hf] at hok
    cases hty : av_rty y with
    | none => rw [hty] at hok; exact absurd hok (by decide)
    | some ty => rw [hty] at hok; cases ty <;> first | exact ⟨_, rfl, Or.inl ⟨_, rfl⟩⟩ | exact ⟨_, rfl, Or.inr ⟨_, rfl⟩⟩ | exact absurd hok (by simp [av_tc])
  split at h
  · next v =>
    split at h
    · next hok =>
      cases h
      obtain ⟨ty, hty, hrt⟩ := href hok.1
      rw [hty] at hr
      exact av_done (v := some (.ref v)) J.1 (by have := J.2.2.2.1; omega) (by have := J.2.2.2.2.1; omega) rfl (W.aret hx hb hr hrt (av_sg_cases cx v) (fun t ht _ => ⟨rfl, ht⟩) J.2.2.1 hd hlocks)
    · cases h
  · split at h
    · next hok =>
      cases h
      obtain ⟨ty, hty, hrt⟩ := href hok
      rw [hty] at hr
      exact av_done (v := some .null) J.1 (by have := J.2.2.2.1; omega) (by have := J.2.2.2.2.1; omega) rfl (W.aret hx hb hr hrt (Or.inl rfl) (fun t ht _ => ⟨rfl, ht⟩) J.2.2.1 hd hlocks)
    · cases h
  · cases h
theorem av_s_new {ix : Nat} (C : av_ctx cx) (F : av_Fr cx p s m meth c y) (hf : av_fetch y pc = some (.new ix)) (hsz : ∀ n pc L S A o A', av_exec R0 y n pc L S A = some (o, A') → av_le A A') (ih : av_IH cx p l e R s m args below meth c y o A' kc ks R0 n) (hd : decode (av_bytes y) pc = .ok (.new ix, ln)) (hln : ln = av_len (.new ix) ∨ av_len (.new ix) = 0) (h : av_stp R0 y n pc L S A (.new ix) = some (o, A')) (J : av_J cx R y A A' H ls L locs cells slots kc ks) : W p l e R s m args below meth c H locs cells slots (av_Q cx s below o A' kc ks) (F0 m pc ls (S.map (av_cv cx))) := by
  cases av_ln1 hln (k := 3) rfl (by decide)
  obtain ⟨hx, hb, hr, hlocks, hml, hown, hW0, hini, -⟩ := F
  simp only [av_stp, av_step] at h
  split at h
  · next k hk =>
    obtain ⟨hw, hkN⟩ := av_inN hk
    obtain ⟨hi1, hi2⟩ := av_inC hkN
    obtain ⟨hS, hfc, kC0, hkC0, hkind⟩ := av_kn C hW0 hkN
    have hle := hsz _ _ _ _ _ _ _ h
    have hle1 : A.1 + 1 ≤ A'.1 := hle.1
    have hle2 : A.2.1 + av_nf k ≤ A'.2.1 := hle.2
    obtain ⟨j1, j2, j3, j4, j5, j6, j7⟩ := J
    refine W.newcK hx hb hown (av_wordT C hW0 hw rfl args) (av_wordT C hW0 hi1 rfl args) (av_wordT C hW0 hi2 rfl args) rfl hd (by omega) (by omega) hfc rfl (fun H' kC hkC g1 g2 g3 => ?_)
    have hnew : av_sg cx A.1 = .ref H.size := by rw [av_sg_new j1.1, j1.2.1]
    have hcell : av_cell cx A.1 (.inl (k, av_dflt k)) H.size H' := by
      refine ⟨_, g1, rfl, fun q => (by cases q), fun _ => rfl, fun _ => ⟨hkN, rfl, fun i hi => ?_⟩, fun hk2 => absurd hk2 (by have h9 : av_nK = 39 := rfl; omega)⟩
      obtain ⟨cf, kf, fi, fd, hfd, hsd⟩ := hS i hi
      obtain ⟨hlayw, hpd, htc, hn0⟩ := av_inT hkN hi
      have h3 := (u_facts (args := args) hfc hkC (u_lays (ws := lw_all) (fun w hw => av_word C hW0 hw args) (av_inTs hkN) hi) hfd).2.2
      rw [(State.fieldFound?_type hfd hpd).2, hsd] at h3
      rw [k2_blank h3]
      refine congrArg some ?_
      unfold av_dflt
      rw [htc]
      rw [htc] at hn0
      cases hty : av_Ty k i <;> rw [hty] at hn0 <;> first | rfl | exact absurd rfl hn0
    have hk2 := ih _ _ _ _ h H' ls locs (cells + 1) (slots + av_nf k) ⟨j1.new g2 g3 hcell, j2, j3, (by show cells + 1 + (A'.1 - (A.1 + 1)) ≤ kc; omega), (by show slots + av_nf k + (A'.2.1 - (A.2.1 + av_nf k)) ≤ ks; omega), j6, j7⟩
    rw [show (Value.ref A.1 :: S).map (av_cv cx) = av_sg cx A.1 :: S.map (av_cv cx) from rfl, hnew] at hk2
    exact hk2
  · cases h
theorem av_s_newarray {ty : ArrayType} (C : av_ctx cx) (F : av_Fr cx p s m meth c y) (hf : av_fetch y pc = some (.newarray ty)) (hsz : ∀ n pc L S A o A', av_exec R0 y n pc L S A = some (o, A') → av_le A A') (ih : av_IH cx p l e R s m args below meth c y o A' kc ks R0 n) (hd : decode (av_bytes y) pc = .ok (.newarray ty, ln)) (hln : ln = av_len (.newarray ty) ∨ av_len (.newarray ty) = 0) (h : av_stp R0 y n pc L S A (.newarray ty) = some (o, A')) (J : av_J cx R y A A' H ls L locs cells slots kc ks) : W p l e R s m args below meth c H locs cells slots (av_Q cx s below o A' kc ks) (F0 m pc ls (S.map (av_cv cx))) := by
  cases av_ln1 hln (k := 2) rfl (by decide)
  obtain ⟨hx, hb, hr, hlocks, hml, hown, hW0, hini, -⟩ := F
  simp only [av_stp, av_step] at h
  split at h
  · next v S1 =>
    split at h
    · next hcond =>
      have hv0 : ¬ v < 0 := Int32.not_lt.mpr hcond.1
      have hvb : v.toNatClampNeg ≤ 100000 := by
        have h1 := Int32.toNatClampNeg_le hcond.2
        exact h1
      have key : ∀ (t : Nat) (aty : ArrayType), av_tOK t = true → newarray.typeOf aty = av_ty t → defaultValue (av_ty t) = .int 0 → componentBytes (av_ty t) ≤ 4 → Cond.arrayClass (av_ty t) ∈ lw_all → decode (av_bytes y) pc = .ok (.newarray aty, 2) →
          av_exec R0 y n (pc + 2) L (.ref A.1 :: S1) (av_new A v.toNatClampNeg (.inr (t, v.toNatClampNeg, fun _ => .int 0))) = some (o, A') → W p l e R s m args below meth c H locs cells slots (av_Q cx s below o A' kc ks) (F0 m pc ls ((Value.int v :: S1).map (av_cv cx))) := by
        intro t aty htOK hty hdv hcb hw hd h
        have hle := hsz _ _ _ _ _ _ _ h
        have hle1 : A.1 + 1 ≤ A'.1 := hle.1
        have hle2 : A.2.1 + v.toNatClampNeg ≤ A'.2.1 := hle.2
        obtain ⟨j1, j2, j3, j4, j5, j6, j7⟩ := J
        obtain ⟨kA, comp, q1, q2, q3, -⟩ := C.2.2.1 t htOK
        refine W.newa hx hb (atype := aty) (by rw [hty]; exact av_word C hW0 hw args) rfl hd rfl hv0 (by rw [hty]; exact Nat.le_trans (Nat.mul_le_mul hvb hcb) (by decide)) (by omega) (by omega) (fun cA kA' comp' e1 e2 e3 => ?_)
        rw [hty] at e1 e3
        have hcA : cx.2.2.2.1 t = cA := by
          rw [hW0.alike.findClass, q1] at e1
          exact Option.some.inj e1
        subst hcA
        rw [hty, hdv, arrV_new]
        have hnew : av_sg cx A.1 = .ref H.size := by rw [av_sg_new j1.1, j1.2.1]
        have hcell : av_cell cx A.1 (.inr (t, v.toNatClampNeg, fun _ => .int 0)) H.size (H.push (arrV (cx.2.2.2.1 t) v.toNatClampNeg (fun _ => .int 0))) := by
          refine ⟨_, Array.getElem?_push_size, rfl, fun q => (by cases q), fun _ => rfl, ⟨fun q hq => (by cases hq), kA, q2, comp, q3⟩, arrV_size _ _ _, by omega, fun i hi => arrV_read _ _ hi, fun _ => rfl⟩
        have hk2 := ih _ _ _ _ h _ ls locs (cells + 1) (slots + v.toNatClampNeg) ⟨j1.new (by simp) (fun z hz => by rw [Array.getElem?_push_lt hz, Array.getElem?_eq_getElem hz]) hcell, j2, j3, (by show cells + 1 + (A'.1 - (A.1 + 1)) ≤ kc; omega), (by show slots + v.toNatClampNeg + (A'.2.1 - (A.2.1 + v.toNatClampNeg)) ≤ ks; omega), j6, j7⟩
        rw [show (Value.ref A.1 :: S1).map (av_cv cx) = av_sg cx A.1 :: S1.map (av_cv cx) from rfl, hnew] at hk2
        exact hk2
      split at h
      · exact key 0 .int rfl rfl rfl (by decide) C.2.2.2.2.2.2.2.2.1.1 hd h
      · exact key 1 .byte rfl rfl rfl (by decide) C.2.2.2.2.2.2.2.2.1.2 hd h
      · cases h
    · cases h
  · cases h
end SNE

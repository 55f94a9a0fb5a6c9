/-! ===== SOUNDNESS, 3: the instructions that call nothing and make nothing ===== -/
abbrev av_stp (R0 : Nat → List Value → av_H → Option (av_R × av_H)) (y n pc : Nat) (L : av_L) (S : List Value) (A : av_H) (i : Instr) : Option (av_R × av_H) :=
  av_step none (fun pc L S A => av_exec R0 y n pc L S A) (fun v A => some (.inl v, A))
        (fun q A => match av_hnd y pc with | some h => (if av_isF A q = true then av_exec R0 y n h L [.ref q] A else none) | none => some (.inr q, A))
        (fun z as A k => match R0 z as A with
          | some (.inl v, A) => k v A
          | some (.inr q, A) => (match av_hnd y pc with | some h => (if av_isF A q = true then av_exec R0 y n h L [.ref q] A else none) | none => some (.inr q, A))
          | none => none)
        y pc L S A i
section SNE
variable {cx : av_X} {p : Program} {l : Launch} {e : Env} {R : Room} {s : State} {m : MethodId} {args : Array Value} {below : List Frame} {meth : Method} {c : Code} {y : Nat} {o : av_R} {A' : av_H} {kc ks : Nat} {R0 : Nat → List Value → av_H → Option (av_R × av_H)}
/-- the rest of the body, after n steps at most -/
def av_IH (cx : av_X) (p : Program) (l : Launch) (e : Env) (R : Room) (s : State) (m : MethodId) (args : Array Value) (below : List Frame) (meth : Method) (c : Code) (y : Nat) (o : av_R) (A' : av_H) (kc ks : Nat) (R0 : Nat → List Value → av_H → Option (av_R × av_H)) (n : Nat) : Prop :=
  ∀ pc L S A, av_exec R0 y n pc L S A = some (o, A') → ∀ H ls locs cells slots, av_J cx R y A A' H ls L locs cells slots kc ks → W p l e R s m args below meth c H locs cells slots (av_Q cx s below o A' kc ks) (F0 m pc ls (S.map (av_cv cx)))
variable {n pc ln : Nat} {L : av_L} {S : List Value} {A : av_H} {H : Heap} {ls : Array Slot} {locs : List Loc} {cells slots : Nat}
theorem av_ln1 {i : Instr} {k : Nat} (h : ln = av_len i ∨ av_len i = 0) (hk : av_len i = k) (h0 : ¬ k = 0) : ln = k := by
  rcases h with h | h
  · exact h.trans hk
  · exact absurd (hk.symm.trans h) h0
theorem av_s_iadd (F : av_Fr cx p s m meth c y) (ih : av_IH cx p l e R s m args below meth c y o A' kc ks R0 n) (hd : decode (av_bytes y) pc = .ok (.iadd, ln)) (hln : ln = av_len (.iadd) ∨ av_len (.iadd) = 0) (h : av_stp R0 y n pc L S A (.iadd) = some (o, A')) (J : av_J cx R y A A' H ls L locs cells slots kc ks) : W p l e R s m args below meth c H locs cells slots (av_Q cx s below o A' kc ks) (F0 m pc ls (S.map (av_cv cx))) := by
  cases av_ln1 hln (k := 1) rfl (by decide)
  obtain ⟨hx, hb, hr, hlocks, hml, hown, hW0, -⟩ := F
  simp only [av_stp, av_step] at h
  split at h
  · exact lv_iadd hx hb hd (ih _ _ _ _ h _ _ _ _ _ J)
  · cases h
theorem av_s_isub (F : av_Fr cx p s m meth c y) (ih : av_IH cx p l e R s m args below meth c y o A' kc ks R0 n) (hd : decode (av_bytes y) pc = .ok (.isub, ln)) (hln : ln = av_len (.isub) ∨ av_len (.isub) = 0) (h : av_stp R0 y n pc L S A (.isub) = some (o, A')) (J : av_J cx R y A A' H ls L locs cells slots kc ks) : W p l e R s m args below meth c H locs cells slots (av_Q cx s below o A' kc ks) (F0 m pc ls (S.map (av_cv cx))) := by
  cases av_ln1 hln (k := 1) rfl (by decide)
  obtain ⟨hx, hb, hr, hlocks, hml, hown, hW0, -⟩ := F
  simp only [av_stp, av_step] at h
  split at h
  · exact lv_isub hx hb hd (ih _ _ _ _ h _ _ _ _ _ J)
  · cases h
theorem av_s_imul (F : av_Fr cx p s m meth c y) (ih : av_IH cx p l e R s m args below meth c y o A' kc ks R0 n) (hd : decode (av_bytes y) pc = .ok (.imul, ln)) (hln : ln = av_len (.imul) ∨ av_len (.imul) = 0) (h : av_stp R0 y n pc L S A (.imul) = some (o, A')) (J : av_J cx R y A A' H ls L locs cells slots kc ks) : W p l e R s m args below meth c H locs cells slots (av_Q cx s below o A' kc ks) (F0 m pc ls (S.map (av_cv cx))) := by
  cases av_ln1 hln (k := 1) rfl (by decide)
  obtain ⟨hx, hb, hr, hlocks, hml, hown, hW0, -⟩ := F
  simp only [av_stp, av_step] at h
  split at h
  · exact lv_imul hx hb hd (ih _ _ _ _ h _ _ _ _ _ J)
  · cases h
theorem av_s_ineg (F : av_Fr cx p s m meth c y) (ih : av_IH cx p l e R s m args below meth c y o A' kc ks R0 n) (hd : decode (av_bytes y) pc = .ok (.ineg, ln)) (hln : ln = av_len (.ineg) ∨ av_len (.ineg) = 0) (h : av_stp R0 y n pc L S A (.ineg) = some (o, A')) (J : av_J cx R y A A' H ls L locs cells slots kc ks) : W p l e R s m args below meth c H locs cells slots (av_Q cx s below o A' kc ks) (F0 m pc ls (S.map (av_cv cx))) := by
  cases av_ln1 hln (k := 1) rfl (by decide)
  obtain ⟨hx, hb, hr, hlocks, hml, hown, hW0, -⟩ := F
  simp only [av_stp, av_step] at h
  split at h
  · exact lv_ineg hx hb hd (ih _ _ _ _ h _ _ _ _ _ J)
  · cases h
theorem av_s_iand (F : av_Fr cx p s m meth c y) (ih : av_IH cx p l e R s m args below meth c y o A' kc ks R0 n) (hd : decode (av_bytes y) pc = .ok (.iand, ln)) (hln : ln = av_len (.iand) ∨ av_len (.iand) = 0) (h : av_stp R0 y n pc L S A (.iand) = some (o, A')) (J : av_J cx R y A A' H ls L locs cells slots kc ks) : W p l e R s m args below meth c H locs cells slots (av_Q cx s below o A' kc ks) (F0 m pc ls (S.map (av_cv cx))) := by
  cases av_ln1 hln (k := 1) rfl (by decide)
  obtain ⟨hx, hb, hr, hlocks, hml, hown, hW0, -⟩ := F
  simp only [av_stp, av_step] at h
  split at h
  · exact lv_iand hx hb hd (ih _ _ _ _ h _ _ _ _ _ J)
  · cases h
theorem av_s_ior (F : av_Fr cx p s m meth c y) (ih : av_IH cx p l e R s m args below meth c y o A' kc ks R0 n) (hd : decode (av_bytes y) pc = .ok (.ior, ln)) (hln : ln = av_len (.ior) ∨ av_len (.ior) = 0) (h : av_stp R0 y n pc L S A (.ior) = some (o, A')) (J : av_J cx R y A A' H ls L locs cells slots kc ks) : W p l e R s m args below meth c H locs cells slots (av_Q cx s below o A' kc ks) (F0 m pc ls (S.map (av_cv cx))) := by
  cases av_ln1 hln (k := 1) rfl (by decide)
  obtain ⟨hx, hb, hr, hlocks, hml, hown, hW0, -⟩ := F
  simp only [av_stp, av_step] at h
  split at h
  · exact lv_ior hx hb hd (ih _ _ _ _ h _ _ _ _ _ J)
  · cases h
theorem av_s_ixor (F : av_Fr cx p s m meth c y) (ih : av_IH cx p l e R s m args below meth c y o A' kc ks R0 n) (hd : decode (av_bytes y) pc = .ok (.ixor, ln)) (hln : ln = av_len (.ixor) ∨ av_len (.ixor) = 0) (h : av_stp R0 y n pc L S A (.ixor) = some (o, A')) (J : av_J cx R y A A' H ls L locs cells slots kc ks) : W p l e R s m args below meth c H locs cells slots (av_Q cx s below o A' kc ks) (F0 m pc ls (S.map (av_cv cx))) := by
  cases av_ln1 hln (k := 1) rfl (by decide)
  obtain ⟨hx, hb, hr, hlocks, hml, hown, hW0, -⟩ := F
  simp only [av_stp, av_step] at h
  split at h
  · exact lv_ixor hx hb hd (ih _ _ _ _ h _ _ _ _ _ J)
  · cases h
theorem av_s_ishl (F : av_Fr cx p s m meth c y) (ih : av_IH cx p l e R s m args below meth c y o A' kc ks R0 n) (hd : decode (av_bytes y) pc = .ok (.ishl, ln)) (hln : ln = av_len (.ishl) ∨ av_len (.ishl) = 0) (h : av_stp R0 y n pc L S A (.ishl) = some (o, A')) (J : av_J cx R y A A' H ls L locs cells slots kc ks) : W p l e R s m args below meth c H locs cells slots (av_Q cx s below o A' kc ks) (F0 m pc ls (S.map (av_cv cx))) := by
  cases av_ln1 hln (k := 1) rfl (by decide)
  obtain ⟨hx, hb, hr, hlocks, hml, hown, hW0, -⟩ := F
  simp only [av_stp, av_step] at h
  split at h
  · exact lv_ishl hx hb hd (ih _ _ _ _ h _ _ _ _ _ J)
  · cases h
theorem av_s_ishr (F : av_Fr cx p s m meth c y) (ih : av_IH cx p l e R s m args below meth c y o A' kc ks R0 n) (hd : decode (av_bytes y) pc = .ok (.ishr, ln)) (hln : ln = av_len (.ishr) ∨ av_len (.ishr) = 0) (h : av_stp R0 y n pc L S A (.ishr) = some (o, A')) (J : av_J cx R y A A' H ls L locs cells slots kc ks) : W p l e R s m args below meth c H locs cells slots (av_Q cx s below o A' kc ks) (F0 m pc ls (S.map (av_cv cx))) := by
  cases av_ln1 hln (k := 1) rfl (by decide)
  obtain ⟨hx, hb, hr, hlocks, hml, hown, hW0, -⟩ := F
  simp only [av_stp, av_step] at h
  split at h
  · exact lv_ishr hx hb hd (ih _ _ _ _ h _ _ _ _ _ J)
  · cases h
theorem av_s_ladd (F : av_Fr cx p s m meth c y) (ih : av_IH cx p l e R s m args below meth c y o A' kc ks R0 n) (hd : decode (av_bytes y) pc = .ok (.ladd, ln)) (hln : ln = av_len (.ladd) ∨ av_len (.ladd) = 0) (h : av_stp R0 y n pc L S A (.ladd) = some (o, A')) (J : av_J cx R y A A' H ls L locs cells slots kc ks) : W p l e R s m args below meth c H locs cells slots (av_Q cx s below o A' kc ks) (F0 m pc ls (S.map (av_cv cx))) := by
  cases av_ln1 hln (k := 1) rfl (by decide)
  obtain ⟨hx, hb, hr, hlocks, hml, hown, hW0, -⟩ := F
  simp only [av_stp, av_step] at h
  split at h
  · exact lv_ladd hx hb hd (ih _ _ _ _ h _ _ _ _ _ J)
  · cases h
theorem av_s_lsub (F : av_Fr cx p s m meth c y) (ih : av_IH cx p l e R s m args below meth c y o A' kc ks R0 n) (hd : decode (av_bytes y) pc = .ok (.lsub, ln)) (hln : ln = av_len (.lsub) ∨ av_len (.lsub) = 0) (h : av_stp R0 y n pc L S A (.lsub) = some (o, A')) (J : av_J cx R y A A' H ls L locs cells slots kc ks) : W p l e R s m args below meth c H locs cells slots (av_Q cx s below o A' kc ks) (F0 m pc ls (S.map (av_cv cx))) := by
  cases av_ln1 hln (k := 1) rfl (by decide)
  obtain ⟨hx, hb, hr, hlocks, hml, hown, hW0, -⟩ := F
  simp only [av_stp, av_step] at h
  split at h
  · exact lv_lsub hx hb hd (ih _ _ _ _ h _ _ _ _ _ J)
  · cases h
theorem av_s_lmul (F : av_Fr cx p s m meth c y) (ih : av_IH cx p l e R s m args below meth c y o A' kc ks R0 n) (hd : decode (av_bytes y) pc = .ok (.lmul, ln)) (hln : ln = av_len (.lmul) ∨ av_len (.lmul) = 0) (h : av_stp R0 y n pc L S A (.lmul) = some (o, A')) (J : av_J cx R y A A' H ls L locs cells slots kc ks) : W p l e R s m args below meth c H locs cells slots (av_Q cx s below o A' kc ks) (F0 m pc ls (S.map (av_cv cx))) := by
  cases av_ln1 hln (k := 1) rfl (by decide)
  obtain ⟨hx, hb, hr, hlocks, hml, hown, hW0, -⟩ := F
  simp only [av_stp, av_step] at h
  split at h
  · exact lv_lmul hx hb hd (ih _ _ _ _ h _ _ _ _ _ J)
  · cases h
theorem av_s_lneg (F : av_Fr cx p s m meth c y) (ih : av_IH cx p l e R s m args below meth c y o A' kc ks R0 n) (hd : decode (av_bytes y) pc = .ok (.lneg, ln)) (hln : ln = av_len (.lneg) ∨ av_len (.lneg) = 0) (h : av_stp R0 y n pc L S A (.lneg) = some (o, A')) (J : av_J cx R y A A' H ls L locs cells slots kc ks) : W p l e R s m args below meth c H locs cells slots (av_Q cx s below o A' kc ks) (F0 m pc ls (S.map (av_cv cx))) := by
  cases av_ln1 hln (k := 1) rfl (by decide)
  obtain ⟨hx, hb, hr, hlocks, hml, hown, hW0, -⟩ := F
  simp only [av_stp, av_step] at h
  split at h
  · exact lv_lneg hx hb hd (ih _ _ _ _ h _ _ _ _ _ J)
  · cases h
theorem av_s_land (F : av_Fr cx p s m meth c y) (ih : av_IH cx p l e R s m args below meth c y o A' kc ks R0 n) (hd : decode (av_bytes y) pc = .ok (.land, ln)) (hln : ln = av_len (.land) ∨ av_len (.land) = 0) (h : av_stp R0 y n pc L S A (.land) = some (o, A')) (J : av_J cx R y A A' H ls L locs cells slots kc ks) : W p l e R s m args below meth c H locs cells slots (av_Q cx s below o A' kc ks) (F0 m pc ls (S.map (av_cv cx))) := by
  cases av_ln1 hln (k := 1) rfl (by decide)
  obtain ⟨hx, hb, hr, hlocks, hml, hown, hW0, -⟩ := F
  simp only [av_stp, av_step] at h
  split at h
  · exact lv_land hx hb hd (ih _ _ _ _ h _ _ _ _ _ J)
  · cases h
theorem av_s_iushr (F : av_Fr cx p s m meth c y) (ih : av_IH cx p l e R s m args below meth c y o A' kc ks R0 n) (hd : decode (av_bytes y) pc = .ok (.iushr, ln)) (hln : ln = av_len (.iushr) ∨ av_len (.iushr) = 0) (h : av_stp R0 y n pc L S A (.iushr) = some (o, A')) (J : av_J cx R y A A' H ls L locs cells slots kc ks) : W p l e R s m args below meth c H locs cells slots (av_Q cx s below o A' kc ks) (F0 m pc ls (S.map (av_cv cx))) := by
  cases av_ln1 hln (k := 1) rfl (by decide)
  obtain ⟨hx, hb, hr, hlocks, hml, hown, hW0, -⟩ := F
  simp only [av_stp, av_step] at h
  split at h
  · exact lv_iushr hx hb hd rfl (ih _ _ _ _ h _ _ _ _ _ J)
  · cases h
theorem av_s_i2l (F : av_Fr cx p s m meth c y) (ih : av_IH cx p l e R s m args below meth c y o A' kc ks R0 n) (hd : decode (av_bytes y) pc = .ok (.i2l, ln)) (hln : ln = av_len (.i2l) ∨ av_len (.i2l) = 0) (h : av_stp R0 y n pc L S A (.i2l) = some (o, A')) (J : av_J cx R y A A' H ls L locs cells slots kc ks) : W p l e R s m args below meth c H locs cells slots (av_Q cx s below o A' kc ks) (F0 m pc ls (S.map (av_cv cx))) := by
  cases av_ln1 hln (k := 1) rfl (by decide)
  obtain ⟨hx, hb, hr, hlocks, hml, hown, hW0, -⟩ := F
  simp only [av_stp, av_step] at h
  split at h
  · exact lv_i2l hx hb hd rfl (ih _ _ _ _ h _ _ _ _ _ J)
  · cases h
theorem av_s_l2i (F : av_Fr cx p s m meth c y) (ih : av_IH cx p l e R s m args below meth c y o A' kc ks R0 n) (hd : decode (av_bytes y) pc = .ok (.l2i, ln)) (hln : ln = av_len (.l2i) ∨ av_len (.l2i) = 0) (h : av_stp R0 y n pc L S A (.l2i) = some (o, A')) (J : av_J cx R y A A' H ls L locs cells slots kc ks) : W p l e R s m args below meth c H locs cells slots (av_Q cx s below o A' kc ks) (F0 m pc ls (S.map (av_cv cx))) := by
  cases av_ln1 hln (k := 1) rfl (by decide)
  obtain ⟨hx, hb, hr, hlocks, hml, hown, hW0, -⟩ := F
  simp only [av_stp, av_step] at h
  split at h
  · exact lv_l2i hx hb hd rfl (ih _ _ _ _ h _ _ _ _ _ J)
  · cases h
theorem av_s_i2b (F : av_Fr cx p s m meth c y) (ih : av_IH cx p l e R s m args below meth c y o A' kc ks R0 n) (hd : decode (av_bytes y) pc = .ok (.i2b, ln)) (hln : ln = av_len (.i2b) ∨ av_len (.i2b) = 0) (h : av_stp R0 y n pc L S A (.i2b) = some (o, A')) (J : av_J cx R y A A' H ls L locs cells slots kc ks) : W p l e R s m args below meth c H locs cells slots (av_Q cx s below o A' kc ks) (F0 m pc ls (S.map (av_cv cx))) := by
  cases av_ln1 hln (k := 1) rfl (by decide)
  obtain ⟨hx, hb, hr, hlocks, hml, hown, hW0, -⟩ := F
  simp only [av_stp, av_step] at h
  split at h
  · exact lv_i2b hx hb hd rfl (ih _ _ _ _ h _ _ _ _ _ J)
  · cases h
theorem av_s_i2c (F : av_Fr cx p s m meth c y) (ih : av_IH cx p l e R s m args below meth c y o A' kc ks R0 n) (hd : decode (av_bytes y) pc = .ok (.i2c, ln)) (hln : ln = av_len (.i2c) ∨ av_len (.i2c) = 0) (h : av_stp R0 y n pc L S A (.i2c) = some (o, A')) (J : av_J cx R y A A' H ls L locs cells slots kc ks) : W p l e R s m args below meth c H locs cells slots (av_Q cx s below o A' kc ks) (F0 m pc ls (S.map (av_cv cx))) := by
  cases av_ln1 hln (k := 1) rfl (by decide)
  obtain ⟨hx, hb, hr, hlocks, hml, hown, hW0, -⟩ := F
  simp only [av_stp, av_step] at h
  split at h
  · exact lv_i2c hx hb hd rfl (ih _ _ _ _ h _ _ _ _ _ J)
  · cases h
theorem av_s_lcmp (F : av_Fr cx p s m meth c y) (ih : av_IH cx p l e R s m args below meth c y o A' kc ks R0 n) (hd : decode (av_bytes y) pc = .ok (.lcmp, ln)) (hln : ln = av_len (.lcmp) ∨ av_len (.lcmp) = 0) (h : av_stp R0 y n pc L S A (.lcmp) = some (o, A')) (J : av_J cx R y A A' H ls L locs cells slots kc ks) : W p l e R s m args below meth c H locs cells slots (av_Q cx s below o A' kc ks) (F0 m pc ls (S.map (av_cv cx))) := by
  cases av_ln1 hln (k := 1) rfl (by decide)
  obtain ⟨hx, hb, hr, hlocks, hml, hown, hW0, -⟩ := F
  simp only [av_stp, av_step] at h
  split at h
  · exact W.lcmp hx hb hd (ih _ _ _ _ h _ _ _ _ _ J)
  · cases h
theorem av_s_idiv (F : av_Fr cx p s m meth c y) (ih : av_IH cx p l e R s m args below meth c y o A' kc ks R0 n) (hd : decode (av_bytes y) pc = .ok (.idiv, ln)) (hln : ln = av_len (.idiv) ∨ av_len (.idiv) = 0) (h : av_stp R0 y n pc L S A (.idiv) = some (o, A')) (J : av_J cx R y A A' H ls L locs cells slots kc ks) : W p l e R s m args below meth c H locs cells slots (av_Q cx s below o A' kc ks) (F0 m pc ls (S.map (av_cv cx))) := by
  cases av_ln1 hln (k := 1) rfl (by decide)
  obtain ⟨hx, hb, hr, hlocks, hml, hown, hW0, -⟩ := F
  simp only [av_stp, av_step] at h
  split at h
  · split at h
    · cases h
    · next hz => exact lv_idiv hx hb hd hz (ih _ _ _ _ h _ _ _ _ _ J)
  · cases h
theorem av_s_irem (F : av_Fr cx p s m meth c y) (ih : av_IH cx p l e R s m args below meth c y o A' kc ks R0 n) (hd : decode (av_bytes y) pc = .ok (.irem, ln)) (hln : ln = av_len (.irem) ∨ av_len (.irem) = 0) (h : av_stp R0 y n pc L S A (.irem) = some (o, A')) (J : av_J cx R y A A' H ls L locs cells slots kc ks) : W p l e R s m args below meth c H locs cells slots (av_Q cx s below o A' kc ks) (F0 m pc ls (S.map (av_cv cx))) := by
  cases av_ln1 hln (k := 1) rfl (by decide)
  obtain ⟨hx, hb, hr, hlocks, hml, hown, hW0, -⟩ := F
  simp only [av_stp, av_step] at h
  split at h
  · split at h
    · cases h
    · next hz => exact lv_irem hx hb hd hz (ih _ _ _ _ h _ _ _ _ _ J)
  · cases h
theorem av_s_ldiv (F : av_Fr cx p s m meth c y) (ih : av_IH cx p l e R s m args below meth c y o A' kc ks R0 n) (hd : decode (av_bytes y) pc = .ok (.ldiv, ln)) (hln : ln = av_len (.ldiv) ∨ av_len (.ldiv) = 0) (h : av_stp R0 y n pc L S A (.ldiv) = some (o, A')) (J : av_J cx R y A A' H ls L locs cells slots kc ks) : W p l e R s m args below meth c H locs cells slots (av_Q cx s below o A' kc ks) (F0 m pc ls (S.map (av_cv cx))) := by
  cases av_ln1 hln (k := 1) rfl (by decide)
  obtain ⟨hx, hb, hr, hlocks, hml, hown, hW0, -⟩ := F
  simp only [av_stp, av_step] at h
  split at h
  · split at h
    · cases h
    · next hz => exact lv_ldiv hx hb hd hz (ih _ _ _ _ h _ _ _ _ _ J)
  · cases h
theorem av_s_lrem (F : av_Fr cx p s m meth c y) (ih : av_IH cx p l e R s m args below meth c y o A' kc ks R0 n) (hd : decode (av_bytes y) pc = .ok (.lrem, ln)) (hln : ln = av_len (.lrem) ∨ av_len (.lrem) = 0) (h : av_stp R0 y n pc L S A (.lrem) = some (o, A')) (J : av_J cx R y A A' H ls L locs cells slots kc ks) : W p l e R s m args below meth c H locs cells slots (av_Q cx s below o A' kc ks) (F0 m pc ls (S.map (av_cv cx))) := by
  cases av_ln1 hln (k := 1) rfl (by decide)
  obtain ⟨hx, hb, hr, hlocks, hml, hown, hW0, -⟩ := F
  simp only [av_stp, av_step] at h
  split at h
  · split at h
    · cases h
    · next hz => exact lv_lrem hx hb hd hz (ih _ _ _ _ h _ _ _ _ _ J)
  · cases h
theorem av_s_aconst_null (F : av_Fr cx p s m meth c y) (ih : av_IH cx p l e R s m args below meth c y o A' kc ks R0 n) (hd : decode (av_bytes y) pc = .ok (.aconst_null, ln)) (hln : ln = av_len (.aconst_null) ∨ av_len (.aconst_null) = 0) (h : av_stp R0 y n pc L S A (.aconst_null) = some (o, A')) (J : av_J cx R y A A' H ls L locs cells slots kc ks) : W p l e R s m args below meth c H locs cells slots (av_Q cx s below o A' kc ks) (F0 m pc ls (S.map (av_cv cx))) := by
  cases av_ln1 hln (k := 1) rfl (by decide)
  obtain ⟨hx, hb, hr, hlocks, hml, hown, hW0, -⟩ := F
  simp only [av_stp, av_step] at h
  exact lv_null hx hb hd (ih _ _ _ _ h _ _ _ _ _ J)
theorem av_s_iconst {k : Int} (F : av_Fr cx p s m meth c y) (ih : av_IH cx p l e R s m args below meth c y o A' kc ks R0 n) (hd : decode (av_bytes y) pc = .ok (.iconst k, ln)) (hln : ln = av_len (.iconst k) ∨ av_len (.iconst k) = 0) (h : av_stp R0 y n pc L S A (.iconst k) = some (o, A')) (J : av_J cx R y A A' H ls L locs cells slots kc ks) : W p l e R s m args below meth c H locs cells slots (av_Q cx s below o A' kc ks) (F0 m pc ls (S.map (av_cv cx))) := by
  cases av_ln1 hln (k := 1) rfl (by decide)
  obtain ⟨hx, hb, hr, hlocks, hml, hown, hW0, -⟩ := F
  simp only [av_stp, av_step] at h
  exact lv_iconst hx hb hd rfl (ih _ _ _ _ h _ _ _ _ _ J)
theorem av_s_bipush {k : Int} (F : av_Fr cx p s m meth c y) (ih : av_IH cx p l e R s m args below meth c y o A' kc ks R0 n) (hd : decode (av_bytes y) pc = .ok (.bipush k, ln)) (hln : ln = av_len (.bipush k) ∨ av_len (.bipush k) = 0) (h : av_stp R0 y n pc L S A (.bipush k) = some (o, A')) (J : av_J cx R y A A' H ls L locs cells slots kc ks) : W p l e R s m args below meth c H locs cells slots (av_Q cx s below o A' kc ks) (F0 m pc ls (S.map (av_cv cx))) := by
  cases av_ln1 hln (k := 2) rfl (by decide)
  obtain ⟨hx, hb, hr, hlocks, hml, hown, hW0, -⟩ := F
  simp only [av_stp, av_step] at h
  exact lv_bipush hx hb hd rfl (ih _ _ _ _ h _ _ _ _ _ J)
theorem av_s_sipush {k : Int} (F : av_Fr cx p s m meth c y) (ih : av_IH cx p l e R s m args below meth c y o A' kc ks R0 n) (hd : decode (av_bytes y) pc = .ok (.sipush k, ln)) (hln : ln = av_len (.sipush k) ∨ av_len (.sipush k) = 0) (h : av_stp R0 y n pc L S A (.sipush k) = some (o, A')) (J : av_J cx R y A A' H ls L locs cells slots kc ks) : W p l e R s m args below meth c H locs cells slots (av_Q cx s below o A' kc ks) (F0 m pc ls (S.map (av_cv cx))) := by
  cases av_ln1 hln (k := 3) rfl (by decide)
  obtain ⟨hx, hb, hr, hlocks, hml, hown, hW0, -⟩ := F
  simp only [av_stp, av_step] at h
  exact lv_sipush hx hb hd rfl (ih _ _ _ _ h _ _ _ _ _ J)
theorem av_s_lconst {k : Fin 2} (F : av_Fr cx p s m meth c y) (ih : av_IH cx p l e R s m args below meth c y o A' kc ks R0 n) (hd : decode (av_bytes y) pc = .ok (.lconst k, ln)) (hln : ln = av_len (.lconst k) ∨ av_len (.lconst k) = 0) (h : av_stp R0 y n pc L S A (.lconst k) = some (o, A')) (J : av_J cx R y A A' H ls L locs cells slots kc ks) : W p l e R s m args below meth c H locs cells slots (av_Q cx s below o A' kc ks) (F0 m pc ls (S.map (av_cv cx))) := by
  cases av_ln1 hln (k := 1) rfl (by decide)
  obtain ⟨hx, hb, hr, hlocks, hml, hown, hW0, -⟩ := F
  simp only [av_stp, av_step] at h
  exact lv_lconst hx hb hd rfl (ih _ _ _ _ h _ _ _ _ _ J)
theorem av_s_iload {k : Nat} (F : av_Fr cx p s m meth c y) (ih : av_IH cx p l e R s m args below meth c y o A' kc ks R0 n) (hd : decode (av_bytes y) pc = .ok (.iload k, ln)) (hln : ln = av_len (.iload k) ∨ av_len (.iload k) = 0) (h : av_stp R0 y n pc L S A (.iload k) = some (o, A')) (J : av_J cx R y A A' H ls L locs cells slots kc ks) : W p l e R s m args below meth c H locs cells slots (av_Q cx s below o A' kc ks) (F0 m pc ls (S.map (av_cv cx))) := by
  cases av_ln1 hln (k := 2) rfl (by decide)
  obtain ⟨hx, hb, hr, hlocks, hml, hown, hW0, -⟩ := F
  simp only [av_stp, av_step] at h
  split at h
  · next hv => exact lv_iload hx hb hd (J.2.1.2.2 _ _ hv) (ih _ _ _ _ h _ _ _ _ _ J)
  · cases h
theorem av_s_iload_n {k : Fin 4} (F : av_Fr cx p s m meth c y) (ih : av_IH cx p l e R s m args below meth c y o A' kc ks R0 n) (hd : decode (av_bytes y) pc = .ok (.iload_n k, ln)) (hln : ln = av_len (.iload_n k) ∨ av_len (.iload_n k) = 0) (h : av_stp R0 y n pc L S A (.iload_n k) = some (o, A')) (J : av_J cx R y A A' H ls L locs cells slots kc ks) : W p l e R s m args below meth c H locs cells slots (av_Q cx s below o A' kc ks) (F0 m pc ls (S.map (av_cv cx))) := by
  cases av_ln1 hln (k := 1) rfl (by decide)
  obtain ⟨hx, hb, hr, hlocks, hml, hown, hW0, -⟩ := F
  simp only [av_stp, av_step] at h
  split at h
  · next hv => exact lv_iload_n hx hb hd rfl (J.2.1.2.2 _ _ hv) (ih _ _ _ _ h _ _ _ _ _ J)
  · cases h
theorem av_s_lload {k : Nat} (F : av_Fr cx p s m meth c y) (ih : av_IH cx p l e R s m args below meth c y o A' kc ks R0 n) (hd : decode (av_bytes y) pc = .ok (.lload k, ln)) (hln : ln = av_len (.lload k) ∨ av_len (.lload k) = 0) (h : av_stp R0 y n pc L S A (.lload k) = some (o, A')) (J : av_J cx R y A A' H ls L locs cells slots kc ks) : W p l e R s m args below meth c H locs cells slots (av_Q cx s below o A' kc ks) (F0 m pc ls (S.map (av_cv cx))) := by
  cases av_ln1 hln (k := 2) rfl (by decide)
  obtain ⟨hx, hb, hr, hlocks, hml, hown, hW0, -⟩ := F
  simp only [av_stp, av_step] at h
  split at h
  · next hv => exact lv_lload hx hb hd (J.2.1.2.2 _ _ hv) (ih _ _ _ _ h _ _ _ _ _ J)
  · cases h
theorem av_s_lload_n {k : Fin 4} (F : av_Fr cx p s m meth c y) (ih : av_IH cx p l e R s m args below meth c y o A' kc ks R0 n) (hd : decode (av_bytes y) pc = .ok (.lload_n k, ln)) (hln : ln = av_len (.lload_n k) ∨ av_len (.lload_n k) = 0) (h : av_stp R0 y n pc L S A (.lload_n k) = some (o, A')) (J : av_J cx R y A A' H ls L locs cells slots kc ks) : W p l e R s m args below meth c H locs cells slots (av_Q cx s below o A' kc ks) (F0 m pc ls (S.map (av_cv cx))) := by
  cases av_ln1 hln (k := 1) rfl (by decide)
  obtain ⟨hx, hb, hr, hlocks, hml, hown, hW0, -⟩ := F
  simp only [av_stp, av_step] at h
  split at h
  · next hv => exact lv_lload_n hx hb hd rfl (J.2.1.2.2 _ _ hv) (ih _ _ _ _ h _ _ _ _ _ J)
  · cases h
theorem av_s_aload {k : Nat} (F : av_Fr cx p s m meth c y) (ih : av_IH cx p l e R s m args below meth c y o A' kc ks R0 n) (hd : decode (av_bytes y) pc = .ok (.aload k, ln)) (hln : ln = av_len (.aload k) ∨ av_len (.aload k) = 0) (h : av_stp R0 y n pc L S A (.aload k) = some (o, A')) (J : av_J cx R y A A' H ls L locs cells slots kc ks) : W p l e R s m args below meth c H locs cells slots (av_Q cx s below o A' kc ks) (F0 m pc ls (S.map (av_cv cx))) := by
  cases av_ln1 hln (k := 2) rfl (by decide)
  obtain ⟨hx, hb, hr, hlocks, hml, hown, hW0, -⟩ := F
  simp only [av_stp, av_step] at h
  split at h
  · next hv => exact av_w_aload hx hb hd (J.2.1.2.2 _ _ hv) (av_sg_cases cx _) (ih _ _ _ _ h _ _ _ _ _ J)
  · next hv => exact av_w_aload hx hb hd (J.2.1.2.2 _ _ hv) (Or.inl rfl) (ih _ _ _ _ h _ _ _ _ _ J)
  · cases h
theorem av_s_astore {k : Nat} (F : av_Fr cx p s m meth c y) (ih : av_IH cx p l e R s m args below meth c y o A' kc ks R0 n) (hd : decode (av_bytes y) pc = .ok (.astore k, ln)) (hln : ln = av_len (.astore k) ∨ av_len (.astore k) = 0) (h : av_stp R0 y n pc L S A (.astore k) = some (o, A')) (J : av_J cx R y A A' H ls L locs cells slots kc ks) (hst : (k : Nat) < av_ml y) : W p l e R s m args below meth c H locs cells slots (av_Q cx s below o A' kc ks) (F0 m pc ls (S.map (av_cv cx))) := by
  cases av_ln1 hln (k := 2) rfl (by decide)
  obtain ⟨hx, hb, hr, hlocks, hml, hown, hW0, -⟩ := F
  simp only [av_stp, av_step] at h
  split at h
  · exact av_w_astore hx hb hd J.2.1.has hst (av_sg_cases cx _) (fun ls1 h1 => ih _ _ _ _ h _ _ _ _ _ ⟨J.1, J.2.1.set1 h1, J.2.2⟩)
  · exact av_w_astore hx hb hd J.2.1.has hst (Or.inl rfl) (fun ls1 h1 => ih _ _ _ _ h _ _ _ _ _ ⟨J.1, J.2.1.set1 (v := .null) h1, J.2.2⟩)
  · cases h
theorem av_s_istore {k : Nat} (F : av_Fr cx p s m meth c y) (ih : av_IH cx p l e R s m args below meth c y o A' kc ks R0 n) (hd : decode (av_bytes y) pc = .ok (.istore k, ln)) (hln : ln = av_len (.istore k) ∨ av_len (.istore k) = 0) (h : av_stp R0 y n pc L S A (.istore k) = some (o, A')) (J : av_J cx R y A A' H ls L locs cells slots kc ks) (hst : (k : Nat) < av_ml y) : W p l e R s m args below meth c H locs cells slots (av_Q cx s below o A' kc ks) (F0 m pc ls (S.map (av_cv cx))) := by
  cases av_ln1 hln (k := 2) rfl (by decide)
  obtain ⟨hx, hb, hr, hlocks, hml, hown, hW0, -⟩ := F
  simp only [av_stp, av_step] at h
  split at h
  · exact lv_istore hx hb hd J.2.1.has hst rfl (fun ls1 h1 => ih _ _ _ _ h _ _ _ _ _ ⟨J.1, J.2.1.set1 (v := .int _) h1, J.2.2⟩)
  · cases h
theorem av_s_lstore {k : Nat} (F : av_Fr cx p s m meth c y) (ih : av_IH cx p l e R s m args below meth c y o A' kc ks R0 n) (hd : decode (av_bytes y) pc = .ok (.lstore k, ln)) (hln : ln = av_len (.lstore k) ∨ av_len (.lstore k) = 0) (h : av_stp R0 y n pc L S A (.lstore k) = some (o, A')) (J : av_J cx R y A A' H ls L locs cells slots kc ks) (hst : (k : Nat) + 1 < av_ml y) : W p l e R s m args below meth c H locs cells slots (av_Q cx s below o A' kc ks) (F0 m pc ls (S.map (av_cv cx))) := by
  cases av_ln1 hln (k := 2) rfl (by decide)
  obtain ⟨hx, hb, hr, hlocks, hml, hown, hW0, -⟩ := F
  simp only [av_stp, av_step] at h
  split at h
  · exact lv_lstore hx hb hd J.2.1.has hst rfl (fun ls1 h1 => ih _ _ _ _ h _ _ _ _ _ ⟨J.1, J.2.1.set2 (v := .long _) h1, J.2.2⟩)
  · cases h
theorem av_s_aload_n {k : Fin 4} (F : av_Fr cx p s m meth c y) (ih : av_IH cx p l e R s m args below meth c y o A' kc ks R0 n) (hd : decode (av_bytes y) pc = .ok (.aload_n k, ln)) (hln : ln = av_len (.aload_n k) ∨ av_len (.aload_n k) = 0) (h : av_stp R0 y n pc L S A (.aload_n k) = some (o, A')) (J : av_J cx R y A A' H ls L locs cells slots kc ks) : W p l e R s m args below meth c H locs cells slots (av_Q cx s below o A' kc ks) (F0 m pc ls (S.map (av_cv cx))) := by
  cases av_ln1 hln (k := 1) rfl (by decide)
  obtain ⟨hx, hb, hr, hlocks, hml, hown, hW0, -⟩ := F
  simp only [av_stp, av_step] at h
  split at h
  · next hv => exact av_w_aload_n hx hb hd (J.2.1.2.2 _ _ hv) (av_sg_cases cx _) (ih _ _ _ _ h _ _ _ _ _ J)
  · next hv => exact av_w_aload_n hx hb hd (J.2.1.2.2 _ _ hv) (Or.inl rfl) (ih _ _ _ _ h _ _ _ _ _ J)
  · cases h
theorem av_s_astore_n {k : Fin 4} (F : av_Fr cx p s m meth c y) (ih : av_IH cx p l e R s m args below meth c y o A' kc ks R0 n) (hd : decode (av_bytes y) pc = .ok (.astore_n k, ln)) (hln : ln = av_len (.astore_n k) ∨ av_len (.astore_n k) = 0) (h : av_stp R0 y n pc L S A (.astore_n k) = some (o, A')) (J : av_J cx R y A A' H ls L locs cells slots kc ks) (hst : (k : Nat) < av_ml y) : W p l e R s m args below meth c H locs cells slots (av_Q cx s below o A' kc ks) (F0 m pc ls (S.map (av_cv cx))) := by
  cases av_ln1 hln (k := 1) rfl (by decide)
  obtain ⟨hx, hb, hr, hlocks, hml, hown, hW0, -⟩ := F
  simp only [av_stp, av_step] at h
  split at h
  · exact av_w_astore_n hx hb hd J.2.1.has hst (av_sg_cases cx _) (fun ls1 h1 => ih _ _ _ _ h _ _ _ _ _ ⟨J.1, J.2.1.set1 h1, J.2.2⟩)
  · exact av_w_astore_n hx hb hd J.2.1.has hst (Or.inl rfl) (fun ls1 h1 => ih _ _ _ _ h _ _ _ _ _ ⟨J.1, J.2.1.set1 (v := .null) h1, J.2.2⟩)
  · cases h
theorem av_s_istore_n {k : Fin 4} (F : av_Fr cx p s m meth c y) (ih : av_IH cx p l e R s m args below meth c y o A' kc ks R0 n) (hd : decode (av_bytes y) pc = .ok (.istore_n k, ln)) (hln : ln = av_len (.istore_n k) ∨ av_len (.istore_n k) = 0) (h : av_stp R0 y n pc L S A (.istore_n k) = some (o, A')) (J : av_J cx R y A A' H ls L locs cells slots kc ks) (hst : (k : Nat) < av_ml y) : W p l e R s m args below meth c H locs cells slots (av_Q cx s below o A' kc ks) (F0 m pc ls (S.map (av_cv cx))) := by
  cases av_ln1 hln (k := 1) rfl (by decide)
  obtain ⟨hx, hb, hr, hlocks, hml, hown, hW0, -⟩ := F
  simp only [av_stp, av_step] at h
  split at h
  · exact lv_istore_n hx hb hd rfl J.2.1.has hst rfl (fun ls1 h1 => ih _ _ _ _ h _ _ _ _ _ ⟨J.1, J.2.1.set1 (v := .int _) h1, J.2.2⟩)
  · cases h
theorem av_s_lstore_n {k : Fin 4} (F : av_Fr cx p s m meth c y) (ih : av_IH cx p l e R s m args below meth c y o A' kc ks R0 n) (hd : decode (av_bytes y) pc = .ok (.lstore_n k, ln)) (hln : ln = av_len (.lstore_n k) ∨ av_len (.lstore_n k) = 0) (h : av_stp R0 y n pc L S A (.lstore_n k) = some (o, A')) (J : av_J cx R y A A' H ls L locs cells slots kc ks) (hst : (k : Nat) + 1 < av_ml y) : W p l e R s m args below meth c H locs cells slots (av_Q cx s below o A' kc ks) (F0 m pc ls (S.map (av_cv cx))) := by
  cases av_ln1 hln (k := 1) rfl (by decide)
  obtain ⟨hx, hb, hr, hlocks, hml, hown, hW0, -⟩ := F
  simp only [av_stp, av_step] at h
  split at h
  · exact lv_lstore_n hx hb hd rfl J.2.1.has hst rfl (fun ls1 h1 => ih _ _ _ _ h _ _ _ _ _ ⟨J.1, J.2.1.set2 (v := .long _) h1, J.2.2⟩)
  · cases h
theorem av_s_iinc {k : Nat} {i : Int} (F : av_Fr cx p s m meth c y) (ih : av_IH cx p l e R s m args below meth c y o A' kc ks R0 n) (hd : decode (av_bytes y) pc = .ok (.iinc k i, ln)) (hln : ln = av_len (.iinc k i) ∨ av_len (.iinc k i) = 0) (h : av_stp R0 y n pc L S A (.iinc k i) = some (o, A')) (J : av_J cx R y A A' H ls L locs cells slots kc ks) : W p l e R s m args below meth c H locs cells slots (av_Q cx s below o A' kc ks) (F0 m pc ls (S.map (av_cv cx))) := by
  cases av_ln1 hln (k := 3) rfl (by decide)
  obtain ⟨hx, hb, hr, hlocks, hml, hown, hW0, -⟩ := F
  simp only [av_stp, av_step] at h
  split at h
  · next v hv =>
    have hk : k < av_ml y := by
      have := (Array.getElem?_eq_some_iff.mp (J.2.1.2.2 _ _ hv)).1
      rw [J.2.1.1] at this
      exact this
    obtain ⟨pl, hpl⟩ := List.getElem?_of_mem (List.mem_filterMap.mpr ⟨k, List.mem_range.mpr hk, by rw [hv]; rfl⟩ : ((k, Value.int v) : Nat × Value) ∈ (List.range (av_ml y)).filterMap fun i => (av_lget L i).map fun v => (i, av_cv cx v))
    exact lv_iinc hx hb hd J.2.1.has hpl rfl hk rfl (fun ls1 h1 => ih _ _ _ _ h _ _ _ _ _ ⟨J.1, J.2.1.set1 (v := .int _) h1, J.2.2⟩)
  · cases h
theorem av_s_dup (F : av_Fr cx p s m meth c y) (ih : av_IH cx p l e R s m args below meth c y o A' kc ks R0 n) (hd : decode (av_bytes y) pc = .ok (.dup, ln)) (hln : ln = av_len (.dup) ∨ av_len (.dup) = 0) (h : av_stp R0 y n pc L S A (.dup) = some (o, A')) (J : av_J cx R y A A' H ls L locs cells slots kc ks) : W p l e R s m args below meth c H locs cells slots (av_Q cx s below o A' kc ks) (F0 m pc ls (S.map (av_cv cx))) := by
  cases av_ln1 hln (k := 1) rfl (by decide)
  obtain ⟨hx, hb, hr, hlocks, hml, hown, hW0, -⟩ := F
  simp only [av_stp, av_step] at h
  split at h
  · split at h
    · next hc => exact lv_dup hx hb hd (by rw [av_cat]; exact hc) (ih _ _ _ _ h _ _ _ _ _ J)
    · cases h
  · cases h
theorem av_s_pop (F : av_Fr cx p s m meth c y) (ih : av_IH cx p l e R s m args below meth c y o A' kc ks R0 n) (hd : decode (av_bytes y) pc = .ok (.pop, ln)) (hln : ln = av_len (.pop) ∨ av_len (.pop) = 0) (h : av_stp R0 y n pc L S A (.pop) = some (o, A')) (J : av_J cx R y A A' H ls L locs cells slots kc ks) : W p l e R s m args below meth c H locs cells slots (av_Q cx s below o A' kc ks) (F0 m pc ls (S.map (av_cv cx))) := by
  cases av_ln1 hln (k := 1) rfl (by decide)
  obtain ⟨hx, hb, hr, hlocks, hml, hown, hW0, -⟩ := F
  simp only [av_stp, av_step] at h
  split at h
  · split at h
    · next hc => exact lv_pop hx hb hd (by rw [av_cat]; exact hc) (ih _ _ _ _ h _ _ _ _ _ J)
    · cases h
  · cases h
theorem av_s_dup_x1 (F : av_Fr cx p s m meth c y) (ih : av_IH cx p l e R s m args below meth c y o A' kc ks R0 n) (hd : decode (av_bytes y) pc = .ok (.dup_x1, ln)) (hln : ln = av_len (.dup_x1) ∨ av_len (.dup_x1) = 0) (h : av_stp R0 y n pc L S A (.dup_x1) = some (o, A')) (J : av_J cx R y A A' H ls L locs cells slots kc ks) : W p l e R s m args below meth c H locs cells slots (av_Q cx s below o A' kc ks) (F0 m pc ls (S.map (av_cv cx))) := by
  cases av_ln1 hln (k := 1) rfl (by decide)
  obtain ⟨hx, hb, hr, hlocks, hml, hown, hW0, -⟩ := F
  simp only [av_stp, av_step] at h
  split at h
  · split at h
    · next hc => exact lv_dup_x1 hx hb hd (by rw [av_cat]; exact hc.1) (by rw [av_cat]; exact hc.2) (ih _ _ _ _ h _ _ _ _ _ J)
    · cases h
  · cases h
theorem av_s_dup_x2 (F : av_Fr cx p s m meth c y) (ih : av_IH cx p l e R s m args below meth c y o A' kc ks R0 n) (hd : decode (av_bytes y) pc = .ok (.dup_x2, ln)) (hln : ln = av_len (.dup_x2) ∨ av_len (.dup_x2) = 0) (h : av_stp R0 y n pc L S A (.dup_x2) = some (o, A')) (J : av_J cx R y A A' H ls L locs cells slots kc ks) : W p l e R s m args below meth c H locs cells slots (av_Q cx s below o A' kc ks) (F0 m pc ls (S.map (av_cv cx))) := by
  cases av_ln1 hln (k := 1) rfl (by decide)
  obtain ⟨hx, hb, hr, hlocks, hml, hown, hW0, -⟩ := F
  simp only [av_stp, av_step] at h
  split at h
  · split at h
    · next hc => exact lv_dup_x2 hx hb hd (by rw [av_cat]; exact hc.1) (by rw [av_cat]; exact hc.2.1) (by rw [av_cat]; exact hc.2.2) (ih _ _ _ _ h _ _ _ _ _ J)
    · cases h
  · cases h
theorem av_s_dup2 (F : av_Fr cx p s m meth c y) (ih : av_IH cx p l e R s m args below meth c y o A' kc ks R0 n) (hd : decode (av_bytes y) pc = .ok (.dup2, ln)) (hln : ln = av_len (.dup2) ∨ av_len (.dup2) = 0) (h : av_stp R0 y n pc L S A (.dup2) = some (o, A')) (J : av_J cx R y A A' H ls L locs cells slots kc ks) : W p l e R s m args below meth c H locs cells slots (av_Q cx s below o A' kc ks) (F0 m pc ls (S.map (av_cv cx))) := by
  cases av_ln1 hln (k := 1) rfl (by decide)
  obtain ⟨hx, hb, hr, hlocks, hml, hown, hW0, -⟩ := F
  simp only [av_stp, av_step] at h
  split at h
  · split at h
    · next hc => exact lv_dup2_11 hx hb hd (by rw [av_cat]; exact hc.1) (by rw [av_cat]; exact hc.2) (ih _ _ _ _ h _ _ _ _ _ J)
    · cases h
  · cases h
theorem av_s_goto {k : Int} (F : av_Fr cx p s m meth c y) (ih : av_IH cx p l e R s m args below meth c y o A' kc ks R0 n) (hd : decode (av_bytes y) pc = .ok (.goto k, ln)) (hln : ln = av_len (.goto k) ∨ av_len (.goto k) = 0) (h : av_stp R0 y n pc L S A (.goto k) = some (o, A')) (J : av_J cx R y A A' H ls L locs cells slots kc ks) : W p l e R s m args below meth c H locs cells slots (av_Q cx s below o A' kc ks) (F0 m pc ls (S.map (av_cv cx))) := by
  cases av_ln1 hln (k := 3) rfl (by decide)
  obtain ⟨hx, hb, hr, hlocks, hml, hown, hW0, -⟩ := F
  simp only [av_stp, av_step] at h
  unfold av_jmp at h
  split at h
  · next ht => exact lv_goto hx hb hd (Int.toNat_of_nonneg ht).symm (ih _ _ _ _ h _ _ _ _ _ J)
  · cases h
theorem av_s_ifCond {cnd : Jvm.ClassFile.Cond} {k : Int} (F : av_Fr cx p s m meth c y) (ih : av_IH cx p l e R s m args below meth c y o A' kc ks R0 n) (hd : decode (av_bytes y) pc = .ok (.ifCond cnd k, ln)) (hln : ln = av_len (.ifCond cnd k) ∨ av_len (.ifCond cnd k) = 0) (h : av_stp R0 y n pc L S A (.ifCond cnd k) = some (o, A')) (J : av_J cx R y A A' H ls L locs cells slots kc ks) (hjm : 0 ≤ (pc : Int) + k) : W p l e R s m args below meth c H locs cells slots (av_Q cx s below o A' kc ks) (F0 m pc ls (S.map (av_cv cx))) := by
  cases av_ln1 hln (k := 3) rfl (by decide)
  obtain ⟨hx, hb, hr, hlocks, hml, hown, hW0, -⟩ := F
  simp only [av_stp, av_step] at h
  split at h
  · next v S1 =>
    by_cases ht : 0 ≤ (pc : Int) + k
    · refine av_w_if hx hb hd ht (fun hc => ?_) (fun hc => ?_)
      · rw [if_pos hc] at h
        unfold av_jmp at h
        rw [if_pos ht] at h
        exact ih _ _ _ _ h _ _ _ _ _ J
      · rw [if_neg hc] at h
        exact ih _ _ _ _ h _ _ _ _ _ J
    · exact absurd hjm ht
  · cases h
theorem av_s_if_icmp {cnd : Jvm.ClassFile.Cond} {k : Int} (F : av_Fr cx p s m meth c y) (ih : av_IH cx p l e R s m args below meth c y o A' kc ks R0 n) (hd : decode (av_bytes y) pc = .ok (.if_icmp cnd k, ln)) (hln : ln = av_len (.if_icmp cnd k) ∨ av_len (.if_icmp cnd k) = 0) (h : av_stp R0 y n pc L S A (.if_icmp cnd k) = some (o, A')) (J : av_J cx R y A A' H ls L locs cells slots kc ks) (hjm : 0 ≤ (pc : Int) + k) : W p l e R s m args below meth c H locs cells slots (av_Q cx s below o A' kc ks) (F0 m pc ls (S.map (av_cv cx))) := by
  cases av_ln1 hln (k := 3) rfl (by decide)
  obtain ⟨hx, hb, hr, hlocks, hml, hown, hW0, -⟩ := F
  simp only [av_stp, av_step] at h
  split at h
  · next v S1 =>
    by_cases ht : 0 ≤ (pc : Int) + k
    · refine av_w_icmp hx hb hd ht (fun hc => ?_) (fun hc => ?_)
      · rw [if_pos hc] at h
        unfold av_jmp at h
        rw [if_pos ht] at h
        exact ih _ _ _ _ h _ _ _ _ _ J
      · rw [if_neg hc] at h
        exact ih _ _ _ _ h _ _ _ _ _ J
    · exact absurd hjm ht
  · cases h
theorem av_s_ifnull {k : Int} (F : av_Fr cx p s m meth c y) (ih : av_IH cx p l e R s m args below meth c y o A' kc ks R0 n) (hd : decode (av_bytes y) pc = .ok (.ifnull k, ln)) (hln : ln = av_len (.ifnull k) ∨ av_len (.ifnull k) = 0) (h : av_stp R0 y n pc L S A (.ifnull k) = some (o, A')) (J : av_J cx R y A A' H ls L locs cells slots kc ks) : W p l e R s m args below meth c H locs cells slots (av_Q cx s below o A' kc ks) (F0 m pc ls (S.map (av_cv cx))) := by
  cases av_ln1 hln (k := 3) rfl (by decide)
  obtain ⟨hx, hb, hr, hlocks, hml, hown, hW0, -⟩ := F
  simp only [av_stp, av_step] at h
  split at h
  · unfold av_jmp at h
    split at h
    · next ht => exact lv_ifnullN hx hb hd (Int.toNat_of_nonneg ht).symm (ih _ _ _ _ h _ _ _ _ _ J)
    · cases h
  · next a S1 =>
    split at h
    · next hc =>
      obtain ⟨cl, hcl⟩ := Option.isSome_iff_exists.mp hc
      obtain ⟨q, hq, -⟩ := J.1.at hcl
      show W p l e R s m args below meth c H locs cells slots _ (F0 m pc ls (av_sg cx a :: _))
      rw [hq]
      exact lv_ifnull hx hb hd (ih _ _ _ _ h _ _ _ _ _ J)
    · cases h
  · cases h
theorem av_s_ifnonnull {k : Int} (F : av_Fr cx p s m meth c y) (ih : av_IH cx p l e R s m args below meth c y o A' kc ks R0 n) (hd : decode (av_bytes y) pc = .ok (.ifnonnull k, ln)) (hln : ln = av_len (.ifnonnull k) ∨ av_len (.ifnonnull k) = 0) (h : av_stp R0 y n pc L S A (.ifnonnull k) = some (o, A')) (J : av_J cx R y A A' H ls L locs cells slots kc ks) : W p l e R s m args below meth c H locs cells slots (av_Q cx s below o A' kc ks) (F0 m pc ls (S.map (av_cv cx))) := by
  cases av_ln1 hln (k := 3) rfl (by decide)
  obtain ⟨hx, hb, hr, hlocks, hml, hown, hW0, -⟩ := F
  simp only [av_stp, av_step] at h
  split at h
  · exact lv_ifnonnullN hx hb hd (ih _ _ _ _ h _ _ _ _ _ J)
  · next a S1 =>
    split at h
    · next hc =>
      obtain ⟨cl, hcl⟩ := Option.isSome_iff_exists.mp hc
      obtain ⟨q, hq, -⟩ := J.1.at hcl
      unfold av_jmp at h
      split at h
      · next ht =>
        show W p l e R s m args below meth c H locs cells slots _ (F0 m pc ls (av_sg cx a :: _))
        rw [hq]
        exact lv_ifnonnull hx hb hd (Int.toNat_of_nonneg ht).symm (ih _ _ _ _ h _ _ _ _ _ J)
      · cases h
    · cases h
  · cases h
theorem av_s_tableswitch {dflt lo hi : Int} {offs : Array Int} (F : av_Fr cx p s m meth c y) (ih : av_IH cx p l e R s m args below meth c y o A' kc ks R0 n) (hd : decode (av_bytes y) pc = .ok (.tableswitch dflt lo hi offs, ln)) (hln : ln = av_len (.tableswitch dflt lo hi offs) ∨ av_len (.tableswitch dflt lo hi offs) = 0) (h : av_stp R0 y n pc L S A (.tableswitch dflt lo hi offs) = some (o, A')) (J : av_J cx R y A A' H ls L locs cells slots kc ks) : W p l e R s m args below meth c H locs cells slots (av_Q cx s below o A' kc ks) (F0 m pc ls (S.map (av_cv cx))) := by
  obtain ⟨hx, hb, hr, hlocks, hml, hown, hW0, -⟩ := F
  simp only [av_stp, av_step] at h
  split at h
  · next v S1 =>
    split at h
    · next hc =>
      unfold av_jmp at h
      split at h
      · next ht => exact lv_tableOut hx hb hd hc (Int.toNat_of_nonneg ht).symm (ih _ _ _ _ h _ _ _ _ _ J)
      · cases h
    · next hc =>
      split at h
      · next off ho =>
        unfold av_jmp at h
        split at h
        · next ht => exact lv_tableIn hx hb hd (fun q => hc (Or.inl q)) (fun q => hc (Or.inr q)) ho (Int.toNat_of_nonneg ht).symm (ih _ _ _ _ h _ _ _ _ _ J)
        · cases h
      · cases h
  · cases h
theorem av_s_lookupswitch {dflt : Int} {ps : Array (Int × Int)} (F : av_Fr cx p s m meth c y) (ih : av_IH cx p l e R s m args below meth c y o A' kc ks R0 n) (hd : decode (av_bytes y) pc = .ok (.lookupswitch dflt ps, ln)) (hln : ln = av_len (.lookupswitch dflt ps) ∨ av_len (.lookupswitch dflt ps) = 0) (h : av_stp R0 y n pc L S A (.lookupswitch dflt ps) = some (o, A')) (J : av_J cx R y A A' H ls L locs cells slots kc ks) : W p l e R s m args below meth c H locs cells slots (av_Q cx s below o A' kc ks) (F0 m pc ls (S.map (av_cv cx))) := by
  obtain ⟨hx, hb, hr, hlocks, hml, hown, hW0, -⟩ := F
  simp only [av_stp, av_step] at h
  split at h
  · next v S1 =>
    split at h
    · next hc =>
      unfold av_jmp at h
      split at h
      · next ht => exact lv_lookup hx hb hd hc rfl (Int.toNat_of_nonneg ht).symm (ih _ _ _ _ h _ _ _ _ _ J)
      · cases h
    · cases h
  · cases h
end SNE

/-! ===== SOUNDNESS, 16: the law ===== -/
def R_law : String := "StockEventsLaw"
def lw_P (b : Addr) (xs : List Int32) (args : Array Value) (s : State) : Prop := args = #[.ref b] ∧ s.IntsAt b xs ∧ xs.length ≤ 120 ∧ (Jvm.Cond.and given_1 narrow_1).before args s = true
def lw_Q (_ : Array Value) (s : State) (o : Outcome) (t : State) : Prop := o = .returned (some (.int 1)) ∧ Framed s o t [] 1200048 5501818
def lw_Z (below : List Frame) (a : Array Value) (s : State) : State → Prop := fun t => ∃ o, t.status = .running ∧ Ended t below o ∧ lw_Q a s o t
theorem av_ml0 : av_ml 0 = 4 := by decide +kernel
theorem av_whole {cx : av_X} {p : Program} {l : Launch} {e : Env} {s : State} {m : MethodId} {below : List Frame} {meth : Method} {c : Code} (C : av_ctx cx) (hcx : cx.1 = s) (F : av_Fr cx p s m meth c 0) {b : Nat} (hb : cx.2.2.2.2 113 = some b) {A0 A' : av_H} (hrel : av_rel cx A0 s.heap) {N : Nat}
    (hrun : av_run N 1576 0 [.ref 113] A0 = some (.inl (some (.int 1)), A')) (hc : A'.1 - A0.1 ≤ 1200048) (hs : A'.2.1 - A0.2.1 ≤ 5501818) : W p l e room_1 s m #[Value.ref b] below meth c s.heap [] 0 0 (lw_Z below #[Value.ref b] s) (entryFrame m ([Value.ref b] : List Value).toArray 4) := by
  have h := av_sound C l N 1576 0 [.ref 113] A0 _ A' (by decide) hrun F (R := room_1) (below := below) (e := e) (by decide) (by decide) s.heap hrel hc hs
  have e1 : ([Value.ref 113] : List Value).map (av_cv cx) = [Value.ref b] := by
    show [av_sg cx 113] = _
    unfold av_sg
    rw [if_pos (by decide), hb]
    rfl
  rw [e1, av_ml0] at h
  refine av_conseq (fun t ht => ?_) h
  obtain ⟨o', h1, h2, h3, h4, h5, L, h6, h7⟩ := ht
  dsimp only at h3
  refine ⟨o', h1, h2, h3, ⟨_, h3⟩, h5, ?_⟩
  have h8 := h6.mono hc hs
  rw [← List.nil_append L] at h8
  exact h8.drop_fresh (fun x hx => by rw [← hcx]; exact h7 x hx)

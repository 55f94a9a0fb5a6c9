/-! ===== SOUNDNESS, 2: a body's steps ===== -/
/-- the frame of method y -/
def av_Fr (cx : av_X) (p : Program) (s : State) (m : MethodId) (meth : Method) (c : Code) (y : Nat) : Prop :=
  p.tables.exec = Jvm.exec ∧ c.code = av_bytes y ∧ meth.sig.returnType = av_rty y ∧ meth.locks = false ∧ c.maxLocals = av_ml y ∧ s.vm.findClass (av_on (av_own y)) = some m.cls ∧ cx.1.WarmedH s.vm ∧ (av_ini y = true → meth.name = "<init>") ∧
  (y ≠ av_yR → c.exceptionTable.toList = []) ∧ (y = av_yR → c.exceptionTable.toList = [⟨0, 32, 42, 34⟩, ⟨0, 32, 61, 0⟩, ⟨42, 51, 61, 0⟩]) ∧ s.methodNamed? (av_yn y) = some m
/-- what a body owes at its end -/
def av_Q (cx : av_X) (s : State) (below : List Frame) (o : av_R) (A' : av_H) (kc ks : Nat) : State → Prop := fun t => ∃ o', t.status = .running ∧ Ended t below o' ∧ (match o with | .inl v => o' = .returned (v.map (av_cv cx)) | .inr q => ∃ a, av_sg cx q = .ref a ∧ o' = .threw a) ∧
  av_rel cx A' t.heap ∧ s.WarmedH t.vm ∧ ∃ L, s.sameButNew ({ t with vm := s.vm } : State) L kc ks ∧ ∀ z ∈ L, cx.1.heap.size ≤ z.base
def av_le (A B : av_H) : Prop := A.1 ≤ B.1 ∧ A.2.1 ≤ B.2.1
/-- the walk's invariant -/
def av_J (cx : av_X) (R : Room) (y : Nat) (A A' : av_H) (H : Heap) (ls : Array Slot) (L : av_L) (locs : List Loc) (cells slots kc ks : Nat) : Prop :=
  av_rel cx A H ∧ av_lrel cx ls (av_ml y) L ∧ (∀ z ∈ locs, cx.1.heap.size ≤ z.base) ∧ cells + (A'.1 - A.1) ≤ kc ∧ slots + (A'.2.1 - A.2.1) ≤ ks ∧ kc ≤ R.cells ∧ ks ≤ R.slots
theorem av_sg_cases (cx : av_X) (a : Nat) : av_sg cx a = .null ∨ ∃ q, av_sg cx a = .ref q := by
  unfold av_sg
  split
  · cases cx.2.2.2.2 a with
    | none => exact Or.inl rfl
    | some q => exact Or.inr ⟨q, rfl⟩
  · exact Or.inr ⟨_, rfl⟩
section SND
variable {p : Program} {l : Launch} {e : Env} {R : Room} {s : State} {m : MethodId} {args : Array Value} {below : List Frame} {meth : Method} {c : Code} {H : Heap} {locs : List Loc} {cells slots : Nat} {Q Q' : State → Prop} {cc : ByteArray} {pc : Nat} {ls : Array Slot} {rest : List Value}
theorem av_conseq {g : JFrame} (h : ∀ t, Q t → Q' t) (k : W p l e R s m args below meth c H locs cells slots Q g) : W p l e R s m args below meth c H locs cells slots Q' g := by
  intro T hT X
  obtain ⟨t, a, b⟩ := k T hT X
  exact ⟨t, a, h t b⟩
theorem av_w_aload_n (hexec : p.tables.exec = Jvm.exec) (hb : c.code = cc) {k : Fin 4} {w : Value} (hdg : decode cc pc = .ok (.aload_n k, 1)) (hl : ls[(k : Nat)]? = some (.val w)) (hw : w = .null ∨ ∃ q, w = .ref q)
    (kk : W p l e R s m args below meth c H locs cells slots Q (F0 m (pc + 1) ls (w :: rest))) : W p l e R s m args below meth c H locs cells slots Q (F0 m pc ls rest) := by
  rcases hw with rfl | ⟨q, rfl⟩
  · exact lv_aload_nN hexec hb hdg rfl hl kk
  · exact lv_aload_n hexec hb hdg rfl hl kk
theorem av_w_aload (hexec : p.tables.exec = Jvm.exec) (hb : c.code = cc) {k : Nat} {w : Value} (hdg : decode cc pc = .ok (.aload k, 2)) (hl : ls[k]? = some (.val w)) (hw : w = .null ∨ ∃ q, w = .ref q)
    (kk : W p l e R s m args below meth c H locs cells slots Q (F0 m (pc + 2) ls (w :: rest))) : W p l e R s m args below meth c H locs cells slots Q (F0 m pc ls rest) := by
  rcases hw with rfl | ⟨q, rfl⟩
  · exact lv_aloadN hexec hb hdg hl kk
  · exact lv_aload hexec hb hdg hl kk
theorem av_w_astore_n (hexec : p.tables.exec = Jvm.exec) (hb : c.code = cc) {k : Fin 4} {nL : Nat} {w : Value} {lv : List (Nat × Value)} (hdg : decode cc pc = .ok (.astore_n k, 1)) (h : lv_has ls nL lv) (hn : (k : Nat) < nL) (hw : w = .null ∨ ∃ q, w = .ref q)
    (kk : ∀ ls' : Array Slot, lv_has ls' nL (((k : Nat), w) :: lv.filter (fun q => !(q.1 == (k : Nat)) && !(q.1 + 1 == (k : Nat) && q.2.category == 2))) → W p l e R s m args below meth c H locs cells slots Q (F0 m (pc + 1) ls' rest)) : W p l e R s m args below meth c H locs cells slots Q (F0 m pc ls (w :: rest)) := by
  rcases hw with rfl | ⟨q, rfl⟩
  · exact lv_astore_nN hexec hb hdg rfl h hn rfl kk
  · exact lv_astore_n hexec hb hdg rfl h hn rfl kk
theorem av_w_astore (hexec : p.tables.exec = Jvm.exec) (hb : c.code = cc) {k : Nat} {nL : Nat} {w : Value} {lv : List (Nat × Value)} (hdg : decode cc pc = .ok (.astore k, 2)) (h : lv_has ls nL lv) (hn : k < nL) (hw : w = .null ∨ ∃ q, w = .ref q)
    (kk : ∀ ls' : Array Slot, lv_has ls' nL ((k, w) :: lv.filter (fun q => !(q.1 == k) && !(q.1 + 1 == k && q.2.category == 2))) → W p l e R s m args below meth c H locs cells slots Q (F0 m (pc + 2) ls' rest)) : W p l e R s m args below meth c H locs cells slots Q (F0 m pc ls (w :: rest)) := by
  rcases hw with rfl | ⟨q, rfl⟩
  · exact lv_astoreN hexec hb hdg h hn rfl kk
  · exact lv_astore hexec hb hdg h hn rfl kk
/-- compares of two numbers -/
theorem av_w_icmp (hexec : p.tables.exec = Jvm.exec) (hb : c.code = cc) {cnd : Jvm.ClassFile.Cond} {x y : Int32} {off : Int} (hdg : decode cc pc = .ok (.if_icmp cnd off, 3)) (ht : 0 ≤ (pc : Int) + off)
    (kt : av_cond cnd x y = true → W p l e R s m args below meth c H locs cells slots Q (F0 m ((pc : Int) + off).toNat ls rest)) (kf : ¬ av_cond cnd x y = true → W p l e R s m args below meth c H locs cells slots Q (F0 m (pc + 3) ls rest)) : W p l e R s m args below meth c H locs cells slots Q (F0 m pc ls (.int y :: .int x :: rest)) := by
  have ht : (pc : Int) + off = (((pc : Int) + off).toNat : Int) := (Int.toNat_of_nonneg ht).symm
  cases cnd
  · exact lv_icmp_eq hexec hb hdg ht (fun h => kt (by simp [av_cond, h])) (fun h => kf (by simp [av_cond, h]))
  · exact lv_icmp_ne hexec hb hdg ht (fun h => kt (by simp [av_cond, h])) (fun h => kf (by simpa [av_cond] using h))
  · exact lv_icmp_lt hexec hb hdg ht (fun h => kt (by simp [av_cond, h])) (fun h => kf (by simpa [av_cond] using h))
  · exact lv_icmp_ge hexec hb hdg ht (fun h => kt (by simpa [av_cond] using h)) (fun h => kf (by simpa [av_cond] using h))
  · exact lv_icmp_gt hexec hb hdg ht (fun h => kt (by simpa [av_cond] using h)) (fun h => kf (by simpa [av_cond] using h))
  · exact lv_icmp_le hexec hb hdg ht (fun h => kt (by simpa [av_cond] using h)) (fun h => kf (by simpa [av_cond] using h))
theorem av_w_if (hexec : p.tables.exec = Jvm.exec) (hb : c.code = cc) {cnd : Jvm.ClassFile.Cond} {x : Int32} {off : Int} (hdg : decode cc pc = .ok (.ifCond cnd off, 3)) (ht : 0 ≤ (pc : Int) + off)
    (kt : av_cond cnd x 0 = true → W p l e R s m args below meth c H locs cells slots Q (F0 m ((pc : Int) + off).toNat ls rest)) (kf : ¬ av_cond cnd x 0 = true → W p l e R s m args below meth c H locs cells slots Q (F0 m (pc + 3) ls rest)) : W p l e R s m args below meth c H locs cells slots Q (F0 m pc ls (.int x :: rest)) := by
  have ht : (pc : Int) + off = (((pc : Int) + off).toNat : Int) := (Int.toNat_of_nonneg ht).symm
  cases cnd
  · exact lv_if_eq hexec hb hdg ht (fun h => kt (by simp [av_cond, h])) (fun h => kf (by simp [av_cond, h]))
  · exact lv_if_ne hexec hb hdg ht (fun h => kt (by simp [av_cond, h])) (fun h => kf (by simpa [av_cond] using h))
  · exact lv_if_lt hexec hb hdg ht (fun h => kt (by simpa [av_cond] using h)) (fun h => kf (by simpa [av_cond] using h))
  · exact lv_if_ge hexec hb hdg ht (fun h => kt (by simpa [av_cond] using h)) (fun h => kf (by simpa [av_cond] using h))
  · exact lv_if_gt hexec hb hdg ht (fun h => kt (by simpa [av_cond] using h)) (fun h => kf (by simpa [av_cond] using h))
  · exact lv_if_le hexec hb hdg ht (fun h => kt (by simpa [av_cond] using h)) (fun h => kf (by simpa [av_cond] using h))
end SND

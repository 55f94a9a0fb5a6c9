/-! ===== SOUNDNESS, 4: what holds at the law's entry of what is fixed, and how it comes along ===== -/
/-- the pairs of classes of which the start says that one can't be cast to the other -/
def av_tOK (t : Nat) : Bool := t == 0 || t == 1 || (decide (10 ≤ t) && decide (t ≤ 20))
def av_ctx (cx : av_X) : Prop :=
  (∃ A0 : Array Value, ∀ w ∈ lw_tbl, w.before A0 cx.1 = true) ∧
  (∀ k, k < av_nK → u_Kn cx.1 (av_cn k) (av_Tr k) (av_nf k) (cx.2.1.1 k) (cx.2.1.2 k)) ∧
  (∀ t, av_tOK t = true → ∃ (kA : Class) (comp : ClassId), cx.1.vm.findClass ("[" ++ (av_ty t).toString) = some (cx.2.2.2.1 t) ∧ cx.1.vm.classes[cx.2.2.2.1 t]? = some kA ∧ kA.kind = .array comp (av_ty t) ∧ (∀ C, av_ty t = .object C → cx.1.vm.findClass C = some comp) ∧ (∀ ty, av_ty t = .array ty → cx.1.vm.findClass (FieldType.array ty).toString = some comp)) ∧
  (∀ o ix a, av_lnS o ix = some a → ∃ tx q, cx.2.2.2.2 a = some q ∧ a < av_K ∧ vk_R (av_on o) ix tx q cx.1) ∧
  (∀ o ix v, av_lnG o ix = some v → ∃ C n d, Cond.fieldLink (av_on o) ix C n d ∈ lw_all ∧ va_Z C n d (av_cv cx v) (fun q => cx.1.heap.size ≤ q) cx.1 cx.1.heap) ∧
  (∀ o ix k b, av_cast o ix k = some b → ∃ D cT, Cond.classLink (av_on o) ix D ∈ lw_all ∧ cx.1.vm.findClass D = some cT ∧ cx.1.vm.assignable (if k < 200 then cx.2.1.1 k else cx.2.2.2.1 (k - 200)) cT = b) ∧
  (∀ t k, av_asg t k = true → av_tOK t = true ∧ ∀ comp, (∃ kA : Class, cx.1.vm.classes[cx.2.2.2.1 t]? = some kA ∧ kA.kind = .array comp (av_ty t)) → ∃ kcomp, cx.1.vm.classes[comp]? = some kcomp ∧ cx.1.vm.assignable (if k < 200 then cx.2.1.1 k else cx.2.2.2.1 (k - 200)) comp = true) ∧
  (∀ o ix t, av_lnA o ix = some t → av_tOK t = true ∧ 10 ≤ t ∧ ((∃ C, av_ty t = .object C ∧ Cond.classLink (av_on o) ix C ∈ lw_all ∧ Cond.arrayOver (.object C) ∈ lw_tbl) ∨ (t = 19 ∧ Cond.classLink (av_on o) ix (FieldType.array .int).toString ∈ lw_all ∧ Cond.arrayOver (.array .int) ∈ lw_tbl))) ∧
  (Cond.arrayClass .int ∈ lw_all ∧ Cond.arrayClass .byte ∈ lw_all) ∧
  (∀ j, j < av_nJ → ∃ one, cx.1.lambdaAt? (av_sh j).1 (av_sh j).2.1 (av_sh j).2.2.1 (av_sh j).2.2.2 = some (cx.2.2.1 j, one) ∧ ((av_lt j).isEmpty = true → ∃ a, one = some a ∧ cx.2.2.2.2 (av_lc j) = some a ∧ av_lc j < av_K))
theorem av_all_good {w : Jvm.Cond} (h : w ∈ lw_all) : goodWord w = true := (List.mem_filter.mp h).2
theorem av_all_tbl {w : Jvm.Cond} (h : w ∈ lw_all) : w ∈ lw_tbl := (List.mem_filter.mp h).1
theorem av_tbl_all {w : Jvm.Cond} (h : w ∈ lw_tbl) (g : goodWord w = true) : w ∈ lw_all := List.mem_filter.mpr ⟨h, g⟩
section CTX
variable {cx : av_X} {s : State}
theorem av_word (hC : av_ctx cx) (hW : cx.1.WarmedH s.vm) {w : Jvm.Cond} (h : w ∈ lw_all) (a' : Array Value) : w.before a' s = true := by
  obtain ⟨A0, hA⟩ := hC.1
  exact word_at hW (good_of_word (av_all_good h)) (hA w (av_all_tbl h))
theorem av_wordT (hC : av_ctx cx) (hW : cx.1.WarmedH s.vm) {w : Jvm.Cond} (h : w ∈ lw_tbl) (g : goodWord w = true) (a' : Array Value) : w.before a' s = true := av_word hC hW (av_tbl_all h g) a'
theorem av_wordF (hC : av_ctx cx) (hW : cx.1.WarmedH s.vm) {a : String} {i : Nat} {b n d h : String} (hw : Cond.fieldLinkNest a i b n d h ∈ lw_tbl) (a' : Array Value) : (Cond.fieldLinkNest a i b n d h).before a' s = true := by
  obtain ⟨A0, hA⟩ := hC.1
  exact va_Nw.use rfl (va_Nw.warmF hW (va_Nw.of rfl (hA _ hw)))
theorem av_wordM (hC : av_ctx cx) (hW : cx.1.WarmedH s.vm) {a : String} {i : Nat} {x : MethodName} {h : String} (hw : Cond.methodLinkNest a i x h ∈ lw_tbl) (a' : Array Value) : (Cond.methodLinkNest a i x h).before a' s = true := by
  obtain ⟨A0, hA⟩ := hC.1
  exact va_Nw.use rfl (va_Nw.warmM hW (va_Nw.of rfl (hA _ hw)))
theorem av_kn (hC : av_ctx cx) (hW : cx.1.WarmedH s.vm) {k : Nat} (hk : k < av_nK) : u_Kn s (av_cn k) (av_Tr k) (av_nf k) (cx.2.1.1 k) (cx.2.1.2 k) := u_Kn_moved hW.alike (hC.2.1 k hk)
end CTX
/-! tables looked up -/
theorem av_look_at {α : Type} {l : List (Nat × α)} {k : Nat} {v : α} (h : av_look l k = some v) : ∃ j : Nat, l[j]? = some (k, v) := by
  induction l with
  | nil => cases h
  | cons a t ih =>
    obtain ⟨a1, a2⟩ := a
    simp only [av_look] at h
    by_cases e : a1 = k
    · rw [if_pos e] at h
      cases h
      subst e
      exact ⟨0, rfl⟩
    · rw [if_neg e] at h
      obtain ⟨j, hj⟩ := ih h
      exact ⟨j + 1, hj⟩
theorem av_look_mem {α : Type} {l : List (Nat × α)} {k : Nat} {v : α} (h : av_look l k = some v) : (k, v) ∈ l := by
  obtain ⟨j, hj⟩ := av_look_at h
  exact List.mem_of_getElem? hj
theorem av_look_zip {α β : Type} {l : List (Nat × α)} {w : List β} (hlen : l.length = w.length) {k : Nat} {v : α} (h : av_look l k = some v) {P : (Nat × α) × β → Bool} (hP : (l.zip w).all P = true) : ∃ b, P ((k, v), b) = true := by
  obtain ⟨j, hj⟩ := av_look_at h
  have hl : j < l.length := (List.getElem?_eq_some_iff.mp hj).1
  have hw : j < w.length := by omega
  have hz : (l.zip w)[j]? = some ((k, v), w[j]) := by
    rw [List.getElem?_zip_eq_some]
    exact ⟨hj, List.getElem?_eq_getElem hw⟩
  rw [List.all_eq_true] at hP
  exact ⟨_, hP _ (List.mem_of_getElem? hz)⟩
theorem av_div (o : Nat) {ix : Nat} (h : ix < 65536) : (o * 65536 + ix) / 65536 = o ∧ (o * 65536 + ix) % 65536 = ix := by omega
theorem av_inF {o ix f : Nat} (h : av_lnF o ix = some f) : Cond.fieldLink (av_on o) ix (av_fr f).1 (av_fr f).2.1 (av_fr f).2.2 ∈ lw_tbl ∨ Cond.fieldLinkNest (av_on o) ix (av_fr f).1 (av_fr f).2.1 (av_fr f).2.2 "StockEvents" ∈ lw_tbl ∧ o ≠ av_fo f := by
  unfold av_lnF at h
  split at h
  · next hx =>
    obtain ⟨b, hb⟩ := av_look_zip av_okF.2 h av_okF.1
    obtain ⟨e1, e2⟩ := av_div o hx
    simp only [av_ckF, e1, e2] at hb
    split at hb
    · simp only [Bool.and_eq_true, Bool.not_eq_true', beq_eq_false_iff_ne] at hb
      exact Or.inr ⟨av_is_in hb.1, hb.2⟩
    · exact Or.inl (av_is_in hb)
  · cases h
theorem av_inI {o ix : Nat} {v : Int32} (h : av_lnI o ix = some v) : Cond.constant (av_on o) ix v ∈ lw_tbl := by
  unfold av_lnI at h
  split at h
  · next hx =>
    obtain ⟨b, hb⟩ := av_look_zip av_okIc.2 h av_okIc.1
    obtain ⟨e1, e2⟩ := av_div o hx
    simp only [e1, e2] at hb
    exact av_is_in hb
  · cases h
theorem av_inL {o ix : Nat} {v : Int64} (h : av_lnL o ix = some v) : Cond.constantLong (av_on o) ix v ∈ lw_tbl := by
  unfold av_lnL at h
  split at h
  · next hx =>
    obtain ⟨b, hb⟩ := av_look_zip av_okLc.2 h av_okLc.1
    obtain ⟨e1, e2⟩ := av_div o hx
    simp only [e1, e2] at hb
    exact av_is_in hb
  · cases h
theorem av_inN {o ix k : Nat} (h : av_lnN o ix = some k) : Cond.classLink (av_on o) ix (av_cn k) ∈ lw_tbl ∧ k < av_nK := by
  unfold av_lnN at h
  split at h
  · next hx =>
    obtain ⟨b, hb⟩ := av_look_zip av_okNw.2 h av_okNw.1
    obtain ⟨e1, e2⟩ := av_div o hx
    simp only [e1, e2, Bool.and_eq_true, decide_eq_true_eq] at hb
    exact ⟨av_is_in hb.1, hb.2⟩
  · cases h
theorem av_inM {o ix z : Nat} (h : av_lnM o ix = some z) : Cond.methodLink (av_on o) ix (av_xn z) ∈ lw_tbl ∨ (Cond.methodLinkNest (av_on o) ix (av_xn z) "StockEvents" ∈ lw_tbl ∧ z ≠ 1000 ∧ av_sprL.contains z = false ∧ av_nestL.contains z = true) := by
  unfold av_lnM at h
  split at h
  · next hx =>
    obtain ⟨b, hb⟩ := av_look_zip av_okM.2 h av_okM.1
    obtain ⟨e1, e2⟩ := av_div o hx
    simp only [av_ckM, e1, e2] at hb
    split at hb
    · simp only [Bool.and_eq_true, Bool.not_eq_true', beq_eq_false_iff_ne] at hb
      exact Or.inr ⟨av_is_in hb.1.1.1, hb.1.1.2, hb.1.2, hb.2⟩
    · exact Or.inl (av_is_in hb)
  · cases h
theorem av_inT {k i : Nat} (hk : k < av_nK) (hi : i < av_nf k) : u_lay (av_cn k) (av_Tr k) i ∈ lw_all ∧ parseFieldDescriptor (av_Tr k i).2.2.1 = some (av_Ty k i) ∧ av_ft k i = av_tc (av_Ty k i) ∧ av_ft k i ≠ 0 := by
  have h := av_okT
  rw [List.all_eq_true] at h
  have h := h k (List.mem_range.mpr hk)
  rw [List.all_eq_true] at h
  have h := h i (List.mem_range.mpr hi)
  simp only [Bool.and_eq_true, decide_eq_true_eq] at h
  exact ⟨av_tbl_all (av_is_in h.1.1.1.1) h.1.1.1.2, h.1.1.2, h.1.2, h.2⟩
theorem av_inTs {k : Nat} (hk : k < av_nK) : ∀ w ∈ u_ws (av_cn k) (av_Tr k) (av_nf k), w ∈ lw_all := by
  intro w hw
  unfold u_ws at hw
  obtain ⟨i, hi, rfl⟩ := List.mem_map.mp hw
  exact (av_inT hk (List.mem_range.mp hi)).1
theorem av_inC {k : Nat} (hk : k < av_nK) : Cond.instantiable (av_cn k) (av_nf k) ∈ lw_tbl ∧ Cond.initialized (av_cn k) ∈ lw_tbl := by
  have h := av_okC
  rw [List.all_eq_true] at h
  have h := h k (List.mem_range.mpr hk)
  split at h
  · simp only [Bool.and_eq_true] at h
    exact ⟨av_is_in h.1, av_is_in h.2⟩
  · cases h
theorem av_infi {f k i : Nat} (h : av_fi f k = some i) : k < av_nK ∧ i < av_nf k ∧ (av_Tr k i).1 = (av_fr f).1 ∧ (av_Tr k i).2.1 = (av_fr f).2.1 ∧ (av_Tr k i).2.2.1 = (av_fr f).2.2 ∧ (av_Tr k i).2.2.2 = av_ff f ∧ av_on (av_fo f) = (av_fr f).1 ∧ k < 100 := by
  unfold av_fi at h
  split at h
  · next hk =>
    have hm := av_look_mem h
    have h1 := av_okI
    rw [List.all_eq_true] at h1
    have h2 := h1 _ hm
    have e1 : (f * 128 + k) % 128 = k := by omega
    have e2 : (f * 128 + k) / 128 = f := by omega
    simp only [e1, e2, decide_eq_true_eq] at h2
    exact ⟨h2.1, h2.2.1, h2.2.2.1, h2.2.2.2.1, h2.2.2.2.2.1, h2.2.2.2.2.2.1, h2.2.2.2.2.2.2, hk⟩
  · cases h
/-- two fields of one class lie apart -/
theorem av_apart {cx : av_X} (hC : av_ctx cx) {s : State} (hW : cx.1.WarmedH s.vm) {k : Nat} (hk : k < av_nK) : ∀ i j, i < av_nf k → j < av_nf k → i ≠ j → cx.2.1.2 k i ≠ cx.2.1.2 k j := by
  intro i j hi hj hne
  obtain ⟨hS, -⟩ := av_kn hC hW hk
  obtain ⟨ca, ka, ia, fa, hia, ea⟩ := hS i hi
  obtain ⟨cb, kb, ib, fb, hib, eb⟩ := hS j hj
  rw [← ea, ← eb]
  have hla : ∀ a' : Array Value, (u_lay (av_cn k) (av_Tr k) i).before a' s = true := fun a' => av_word hC hW (av_inT hk hi).1 a'
  have hlb : ∀ a' : Array Value, (u_lay (av_cn k) (av_Tr k) j).before a' s = true := fun a' => av_word hC hW (av_inT hk hj).1 a'
  have hc := av_okN
  rw [List.all_eq_true] at hc
  have hc := hc k (List.mem_range.mpr hk)
  rw [List.all_eq_true] at hc
  have hc := hc i (List.mem_range.mpr hi)
  rw [List.all_eq_true] at hc
  have hc := hc j (List.mem_range.mpr hj)
  simp only [Bool.or_eq_true, Bool.and_eq_true, Bool.not_eq_true', beq_iff_eq, beq_eq_false_iff_ne] at hc
  rcases hc with (hc | hc) | hc
  · exact absurd hc hne
  · refine u_apart (args := #[]) (u_lays (ws := lw_all) (fun w h => av_word hC hW h #[]) (av_inTs hk) hi) (u_lays (ws := lw_all) (fun w h => av_word hC hW h #[]) (av_inTs hk) hj) hia hib ?_
    rw [(State.fieldFound?_type hia (av_inT hk hi).2.1).1, (State.fieldFound?_type hib (av_inT hk hj).2.1).1]
    exact hc
  · obtain ⟨⟨f1, f2⟩, f3⟩ := hc
    have l1 := hla #[]
    have l2 := hlb #[]
    unfold u_lay at l1 l2
    rw [if_pos f1] at l1
    rw [if_pos f2] at l2
    obtain ⟨c1, k1, c1', k1', i1, g1, r1, r2, r3, -, -, -, r4, -, d1, r5, r6, -⟩ := Cond.laysFinal_spec l1
    obtain ⟨c2, k2, c2', k2', i2, g2, t1, t2, t3, -, -, -, t4, -, d2, t5, t6, -⟩ := Cond.laysFinal_spec l2
    cases r1.symm.trans t1
    have q1 := hia.symm.trans r3
    have q2 := hib.symm.trans t3
    simp only [Option.some.injEq, Prod.mk.injEq] at q1 q2
    obtain ⟨rfl, rfl, rfl, rfl⟩ := q1
    obtain ⟨rfl, rfl, rfl, rfl⟩ := q2
    intro hs
    rw [hs] at r5
    cases r5.symm.trans t5
    obtain ⟨n1, m1, m2⟩ := Vm.findClass_spec r4
    obtain ⟨n2, m3, m4⟩ := Vm.findClass_spec t4
    cases m1.symm.trans (State.fieldFound?_spec hia).1
    cases m3.symm.trans (State.fieldFound?_spec hib).1
    exact f3 (by rw [← m2, ← m4, ← r6, ← t6])

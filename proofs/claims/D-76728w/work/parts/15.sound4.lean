/-! ===== SOUNDNESS, 5: the instructions that read and write cells ===== -/
theorem av_nat_in {i : Int32} {n : Nat} (h : av_in i n = true) : ¬ (i < 0 ∨ n ≤ i.toNatClampNeg) := by
  unfold av_in at h
  simp only [Bool.and_eq_true, Bool.not_eq_true', decide_eq_false_iff_not, decide_eq_true_eq] at h
  intro q
  rcases q with q | q
  · exact h.1 q
  · omega
/-- what av_ok lets through fits -/
theorem av_ok_fit {cx : av_X} {ty : FieldType} {v : Value} (h : av_ok (av_tc ty) v = true) : narrow ty (av_cv cx v) = av_cv cx v ∧ fits ty (av_cv cx v) = true := by
  have href : ∀ a : Nat, (av_cv cx (.ref a)) = .null ∨ ∃ q, av_cv cx (.ref a) = .ref q := fun a => av_sg_cases cx a
  cases ty <;> cases v <;> simp only [av_tc, av_ok, Bool.false_eq_true, Bool.or_eq_true, beq_iff_eq] at h
  all_goals first
    | exact ⟨rfl, rfl⟩
    | (rcases h with rfl | rfl
       · show narrow .boolean (.int 0) = .int 0 ∧ fits .boolean (.int 0) = true
         exact ⟨by decide, by decide⟩
       · show narrow .boolean (.int 1) = .int 1 ∧ fits .boolean (.int 1) = true
         exact ⟨by decide, by decide⟩)
    | (rename_i a; rcases href a with e | ⟨q, e⟩ <;> rw [e] <;> exact ⟨rfl, rfl⟩)
    | (rename_i a; rw [← h]; exact ⟨pk_nb a, pk_fb a⟩)
    | (rename_i a; rw [← h]; exact ⟨pk_nc a, pk_fc a⟩)
    | skip
theorem av_slot_size {cell : Cell} {i : Nat} {v : Value} (h : cell.slots[i]? = some v) : i < cell.slots.size := (Array.getElem?_eq_some_iff.mp h).1
theorem av_lcs {locs : List Loc} {B a i : Nat} (h : ∀ z ∈ locs, B ≤ z.base) (ha : B ≤ a) : ∀ z ∈ locs ++ [⟨a, i⟩], B ≤ z.base := by
  intro z hz
  rcases List.mem_append.mp hz with q | q
  · exact h z q
  · rw [List.mem_singleton.mp q]; exact ha
theorem av_new_at {cx : av_X} {a q : Nat} (hK : av_K ≤ a) (hq : av_sg cx a = .ref q) : cx.1.heap.size ≤ q := by
  rw [av_sg_new hK] at hq
  have : cx.1.heap.size + (a - av_K) = q := Value.ref.inj hq
  omega
/-- a field is written -/
theorem av_cell_put {cx : av_X} {a k i : Nat} {g : Nat → Value} {q : Addr} {H H' : Heap} {cell : Cell} {v : Value} (hk : k < 100) (hi : i < av_nf k) (hap : ∀ i j, i < av_nf k → j < av_nf k → i ≠ j → cx.2.1.2 k i ≠ cx.2.1.2 k j)
    (hcell : H[q]? = some cell) (h2 : cell.vm.isStatics = false) (h3 : cell.vm ≠ .unknown) (h4 : av_K ≤ a → cell.vm = .none) (h5 : k < av_nK ∧ cell.cls = cx.2.1.1 k ∧ ∀ i, i < av_nf k → cell.slots[cx.2.1.2 k i]? = some (av_cv cx (g i)))
    (hH : H'[q]? = some (cell.setSlot (cx.2.1.2 k i) (av_cv cx v))) : av_cell cx a (.inl (k, fun j => if j = i then v else g j)) q H' := by
  refine ⟨_, hH, h2, h3, h4, fun _ => ⟨h5.1, h5.2.1, fun j hj => ?_⟩, fun h => by omega⟩
  by_cases e : j = i
  · subst e
    rw [Cell.slots_setSlot_self _ (av_slot_size (h5.2.2 j hj))]
    simp
  · rw [Cell.slots_setSlot_ne _ (hap i j hi hj (Ne.symm e)), h5.2.2 j hj]
    simp [e]
/-- a place of an array is written -/
theorem av_cell_ast {cx : av_X} {a t n j : Nat} {f : Nat → Value} {q : Addr} {H' : Heap} {cell : Cell} {v : Value} (hj : j < n)
    (h2 : cell.vm.isStatics = false) (h3 : cell.vm ≠ .unknown) (h4 : av_K ≤ a → cell.vm = .none) (h5 : cx.1.isArrayOf cell (av_ty t) ∧ cell.slots.size = n ∧ n < 2 ^ 31 ∧ (∀ i, i < n → cell.slots[i]? = some (av_cv cx (f i))) ∧ (av_K ≤ a → cell.cls = cx.2.2.2.1 t))
    (hH : H'[q]? = some (cell.setSlot j (av_cv cx v))) : av_cell cx a (.inr (t, n, fun i => if i = j then v else f i)) q H' := by
  refine ⟨_, hH, h2, h3, h4, ?_, ?_, h5.2.2.1, fun i hi => ?_, h5.2.2.2.2⟩
  · exact h5.1
  · rw [k2_slotsz]; exact h5.2.1
  · by_cases e : i = j
    · subst e
      rw [Cell.slots_setSlot_self _ (by rw [h5.2.1]; exact hj)]
      simp
    · rw [Cell.slots_setSlot_ne _ (Ne.symm e), h5.2.2.2.1 i hi]
      simp [e]
theorem av_ty_ref {t : Nat} (h : 10 ≤ t) : (av_ty t).isReference = true := by
  unfold av_ty
  split <;> first | rfl | omega
section SNE
variable {cx : av_X} {p : Program} {l : Launch} {e : Env} {R : Room} {s : State} {m : MethodId} {args : Array Value} {below : List Frame} {meth : Method} {c : Code} {y : Nat} {o : av_R} {A' : av_H} {kc ks : Nat} {R0 : Nat → List Value → av_H → Option (av_R × av_H)}
variable {n pc ln : Nat} {L : av_L} {S : List Value} {A : av_H} {H : Heap} {ls : Array Slot} {locs : List Loc} {cells slots : Nat}
theorem av_ldcwS {Q : State → Prop} {rest : List Value} {cc : ByteArray} (hexec : p.tables.exec = Jvm.exec) (hb : c.code = cc) {own tx : String} {index q : Nat} (hown : s.vm.findClass own = some m.cls) (hZ : vk_R own index tx q s) (hdg : decode cc pc = .ok (.ldc_w index, 3))
    (k : W p l e R s m args below meth c H locs cells slots Q (F0 m (pc + 3) ls (.ref q :: rest))) : W p l e R s m args below meth c H locs cells slots Q (F0 m pc ls rest) := by
  intro T hT X
  obtain ⟨t, a1, b1⟩ := k T hT X
  refine ⟨t, ?_, b1⟩
  obtain ⟨k, cf, i, a', hk, hcf, hcp, -, hr, hev'⟩ := Cond.stringRef_spec hown hZ.1
  cases hZ.2.symm.trans hev'
  obtain ⟨k', hk', he⟩ := X.warmed.alike.2.2 _ _ hk
  have hr' : k'.resolved[index]? = some (some (.string q)) := by
    rcases X.warmed.entry hk hk' index with h | ⟨h, -⟩
    · rw [h]; exact hr
    · rw [hr] at h; cases h
  have hdg' : decode c.code pc = .ok (.ldc_w index, 3) := by rw [hb]; exact hdg
  jvm_step X.here [hexec, hdg', (show ldc_w.sem index = ldc.sem index from rfl), ldc.wp_string (e := e) (s := T) (f := F0 m pc ls rest) X.here.top hk' (by rw [he]; exact hcf) hcp hr']
  exact a1

theorem av_s_ldc {ix : Nat} (C : av_ctx cx) (F : av_Fr cx p s m meth c y) (ih : av_IH cx p l e R s m args below meth c y o A' kc ks R0 n) (hd : decode (av_bytes y) pc = .ok (.ldc ix, ln)) (hln : ln = av_len (.ldc ix) ∨ av_len (.ldc ix) = 0) (h : av_stp R0 y n pc L S A (.ldc ix) = some (o, A')) (J : av_J cx R y A A' H ls L locs cells slots kc ks) : W p l e R s m args below meth c H locs cells slots (av_Q cx s below o A' kc ks) (F0 m pc ls (S.map (av_cv cx))) := by
  cases av_ln1 hln (k := 2) rfl (by decide)
  obtain ⟨hx, hb, hr, hlocks, hml, hown, hW0, hini, -⟩ := F
  simp only [av_stp, av_step] at h
  split at h
  · next v hv => exact W.ldc hx hb hown (av_wordT C hW0 (av_inI hv) rfl args) rfl hd (ih _ _ _ _ h _ _ _ _ _ J)
  · split at h
    · next a ha =>
      obtain ⟨tx, q, hq, hK, hR⟩ := C.2.2.2.1 _ _ _ ha
      have hsg : av_sg cx a = .ref q := by
        unfold av_sg
        rw [if_pos hK, hq]
        rfl
      have hk := ih _ _ _ _ h _ _ _ _ _ J
      rw [show (Value.ref a :: S).map (av_cv cx) = av_sg cx a :: S.map (av_cv cx) from rfl, hsg] at hk
      exact va_ldcS hx hb hown (vk_R.warm hW0 hR) hd hk
    · cases h
theorem av_s_ldc_w {ix : Nat} (C : av_ctx cx) (F : av_Fr cx p s m meth c y) (ih : av_IH cx p l e R s m args below meth c y o A' kc ks R0 n) (hd : decode (av_bytes y) pc = .ok (.ldc_w ix, ln)) (hln : ln = av_len (.ldc_w ix) ∨ av_len (.ldc_w ix) = 0) (h : av_stp R0 y n pc L S A (.ldc_w ix) = some (o, A')) (J : av_J cx R y A A' H ls L locs cells slots kc ks) : W p l e R s m args below meth c H locs cells slots (av_Q cx s below o A' kc ks) (F0 m pc ls (S.map (av_cv cx))) := by
  cases av_ln1 hln (k := 3) rfl (by decide)
  obtain ⟨hx, hb, hr, hlocks, hml, hown, hW0, hini, -⟩ := F
  simp only [av_stp, av_step] at h
  split at h
  · next v hv => exact lv_ldcw hx hb hown (av_wordT C hW0 (av_inI hv) rfl args) hd (ih _ _ _ _ h _ _ _ _ _ J)
  · split at h
    · next a ha =>
      obtain ⟨tx, q, hq, hK, hR⟩ := C.2.2.2.1 _ _ _ ha
      have hsg : av_sg cx a = .ref q := by
        unfold av_sg
        rw [if_pos hK, hq]
        rfl
      have hk := ih _ _ _ _ h _ _ _ _ _ J
      rw [show (Value.ref a :: S).map (av_cv cx) = av_sg cx a :: S.map (av_cv cx) from rfl, hsg] at hk
      exact av_ldcwS hx hb hown (vk_R.warm hW0 hR) hd hk
    · cases h
theorem av_s_ldc2_w {ix : Nat} (C : av_ctx cx) (F : av_Fr cx p s m meth c y) (ih : av_IH cx p l e R s m args below meth c y o A' kc ks R0 n) (hd : decode (av_bytes y) pc = .ok (.ldc2_w ix, ln)) (hln : ln = av_len (.ldc2_w ix) ∨ av_len (.ldc2_w ix) = 0) (h : av_stp R0 y n pc L S A (.ldc2_w ix) = some (o, A')) (J : av_J cx R y A A' H ls L locs cells slots kc ks) : W p l e R s m args below meth c H locs cells slots (av_Q cx s below o A' kc ks) (F0 m pc ls (S.map (av_cv cx))) := by
  cases av_ln1 hln (k := 3) rfl (by decide)
  obtain ⟨hx, hb, hr, hlocks, hml, hown, hW0, hini, -⟩ := F
  simp only [av_stp, av_step] at h
  split at h
  · next v hv => exact W.ldc2 hx hb hown (av_wordT C hW0 (av_inL hv) rfl args) rfl hd (ih _ _ _ _ h _ _ _ _ _ J)
  · cases h
theorem av_s_getstatic {ix : Nat} (C : av_ctx cx) (F : av_Fr cx p s m meth c y) (ih : av_IH cx p l e R s m args below meth c y o A' kc ks R0 n) (hd : decode (av_bytes y) pc = .ok (.getstatic ix, ln)) (hln : ln = av_len (.getstatic ix) ∨ av_len (.getstatic ix) = 0) (h : av_stp R0 y n pc L S A (.getstatic ix) = some (o, A')) (J : av_J cx R y A A' H ls L locs cells slots kc ks) : W p l e R s m args below meth c H locs cells slots (av_Q cx s below o A' kc ks) (F0 m pc ls (S.map (av_cv cx))) := by
  cases av_ln1 hln (k := 3) rfl (by decide)
  obtain ⟨hx, hb, hr, hlocks, hml, hown, hW0, hini, -⟩ := F
  simp only [av_stp, av_step] at h
  split at h
  · next v hv =>
    obtain ⟨C1, n1, d1, hl, hZ⟩ := C.2.2.2.2.1 _ _ _ hv
    obtain ⟨cf, kf, fi, f, a, cell, h1, h2, h3, h4, h5, h6, h7, h8⟩ := va_Z.moved hW0.alike hZ
    have ha : a < cx.1.heap.size := Nat.lt_of_not_le h8
    exact W.gets hx hb hown (av_word C hW0 hl args) h1 h2 h3 h4 (by rw [J.1.2.2.1 a ha]; exact h5) (fun e => by rw [e] at h6; cases h6) h7 rfl hd (ih _ _ _ _ h _ _ _ _ _ J)
  · cases h
theorem av_s_getfield {ix : Nat} (C : av_ctx cx) (F : av_Fr cx p s m meth c y) (ih : av_IH cx p l e R s m args below meth c y o A' kc ks R0 n) (hd : decode (av_bytes y) pc = .ok (.getfield ix, ln)) (hln : ln = av_len (.getfield ix) ∨ av_len (.getfield ix) = 0) (h : av_stp R0 y n pc L S A (.getfield ix) = some (o, A')) (J : av_J cx R y A A' H ls L locs cells slots kc ks) : W p l e R s m args below meth c H locs cells slots (av_Q cx s below o A' kc ks) (F0 m pc ls (S.map (av_cv cx))) := by
  cases av_ln1 hln (k := 3) rfl (by decide)
  obtain ⟨hx, hb, hr, hlocks, hml, hown, hW0, hini, -⟩ := F
  simp only [av_stp, av_step] at h
  split at h
  · next a S1 =>
    split at h
    · next k g f hc hf =>
      split at h
      · next i hi =>
        obtain ⟨q, hq, cell, h1, h2, h3, h4, h5, -⟩ := J.1.at hc
        obtain ⟨hkN, hiN, e1, e2, e3, e4, e5, hk⟩ := av_infi hi
        obtain ⟨-, hcls, hsl⟩ := h5 hk
        obtain ⟨hS, hfc, kC, hkC, hkind⟩ := av_kn C hW0 hkN
        obtain ⟨cf, kf, fi, fd, hfd, hsd⟩ := hS i hiN
        have hst := (u_facts (args := args) hfc hkC (u_lays (ws := lw_all) (fun w hw => av_word C hW0 hw args) (av_inTs hkN) hiN) hfd).1
        rw [e1, e2, e3] at hfd
        have hk2 := ih _ _ _ _ h _ _ _ _ _ J
        show W p l e R s m args below meth c H locs cells slots _ (F0 m pc ls (av_sg cx a :: _))
        rw [hq]
        have hslot : cell.slots[fd.slot]? = some (av_cv cx (g i)) := by rw [hsd]; exact hsl i hiN
        rcases av_inF hf with hw | hw
        · exact W.getf hx hb hown (av_wordT C hW0 hw rfl args) hfd hst h1 h3 hslot rfl rfl hd hk2
        · exact va_Wgetf hx hb hown (av_wordF C hW0 hw.1 args) hfd hst h1 h3 hslot rfl rfl hd hk2
      · cases h
    · cases h
  · cases h
theorem av_s_putfield {ix : Nat} (C : av_ctx cx) (F : av_Fr cx p s m meth c y) (ih : av_IH cx p l e R s m args below meth c y o A' kc ks R0 n) (hd : decode (av_bytes y) pc = .ok (.putfield ix, ln)) (hln : ln = av_len (.putfield ix) ∨ av_len (.putfield ix) = 0) (h : av_stp R0 y n pc L S A (.putfield ix) = some (o, A')) (J : av_J cx R y A A' H ls L locs cells slots kc ks) : W p l e R s m args below meth c H locs cells slots (av_Q cx s below o A' kc ks) (F0 m pc ls (S.map (av_cv cx))) := by
  cases av_ln1 hln (k := 3) rfl (by decide)
  obtain ⟨hx, hb, hr, hlocks, hml, hown, hW0, hini, -⟩ := F
  simp only [av_stp, av_step] at h
  split at h
  · next v a S1 =>
    split at h
    · next k g f hc hf =>
      split at h
      · next i hi =>
        split at h
        · next hcond =>
          obtain ⟨haK, hok, hfin⟩ := hcond
          obtain ⟨q, hq, cell, h1, h2, h3, h4, h5, -⟩ := J.1.at hc
          obtain ⟨hkN, hiN, e1, e2, e3, e4, e5, hk⟩ := av_infi hi
          have h5 := h5 hk
          obtain ⟨hS, hfc, kC, hkC, hkind⟩ := av_kn C hW0 hkN
          obtain ⟨cf, kf, fi, fd, hfd, hsd⟩ := hS i hiN
          obtain ⟨hlayw, hpd, htc, -⟩ := av_inT hkN hiN
          have hlay : (u_lay (av_cn k) (av_Tr k) i).before args s = true := av_word C hW0 hlayw args
          have hst := (u_facts (args := args) hfc hkC (u_lays (ws := lw_all) (fun w hw => av_word C hW0 hw args) (av_inTs hkN) hiN) hfd).1
          rw [htc] at hok
          obtain ⟨hnar, hfit⟩ := av_ok_fit (cx := cx) hok
          have hslot : fd.slot < cell.slots.size := by rw [hsd]; exact av_slot_size (h5.2.2 i hiN)
          have hvm := h4 haK
          have hk2 : ∀ H' : Heap, H'[q]? = some (cell.setSlot fd.slot (av_cv cx v)) → H'.size = H.size → (∀ z, z ≠ q → H'[z]? = H[z]?) → W p l e R s m args below meth c H' (locs ++ [⟨q, fd.slot⟩]) cells slots (av_Q cx s below o A' kc ks) (F0 m (pc + 3) ls (S1.map (av_cv cx))) := by
            intro H' g1 g2 g3
            rw [hsd] at g1
            exact ih _ _ _ _ h _ _ _ _ _ ⟨J.1.set hc haK hq g2 g3 (av_cell_put hk hiN (av_apart C hW0 hkN) h1 h2 h3 h4 h5 g1), J.2.1, av_lcs J.2.2.1 (av_new_at haK hq), J.2.2.2⟩
          show W p l e R s m args below meth c H locs cells slots _ (F0 m pc ls (av_cv cx v :: av_sg cx a :: _))
          rw [hq]
          by_cases hff : av_ff f = true
          · rcases hfin with hfin | ⟨hin, how⟩
            · rw [hff] at hfin; cases hfin
            unfold u_lay at hlay
            rw [if_pos (e4.trans hff)] at hlay
            have hcf : m.cls = cf := by
              obtain ⟨_, _, c', _, _, _, -, -, hf', -, -, -, hown2, -⟩ := Cond.laysFinal_spec hlay
              have e1' : c' = cf := by have := hfd.symm.trans hf'; simp at this; exact this.1.symm
              rw [e1, ← e5, ← how] at hown2
              rw [← e1']; exact Option.some.inj (hown.symm.trans hown2)
            have h6 := u_fits hfc hkC hkind (Or.inr hlay) hfd hpd hnar hfit
            rw [e1, e2, e3] at hfd
            rcases av_inF hf with hw | hw
            · exact W.putFinK hx hb hown (av_wordT C hW0 hw rfl args) hfd hst hcf (hini hin) (by rw [h5.2.1]; exact h6) h1 hvm hslot rfl rfl hd hk2
            · exact absurd how hw.2
          · have hff : av_ff f = false := by cases hq : av_ff f <;> simp_all
            unfold u_lay at hlay
            rw [if_neg (by rw [e4, hff]; decide)] at hlay
            have h6 := u_store hfc hkC hkind hlay hfd hpd hnar hfit
            rw [e1, e2, e3] at hfd
            rcases av_inF hf with hw | hw
            · exact W.putK hx hb (f := fd) ⟨hown, av_wordT C hW0 hw rfl args, ⟨_, _, _, hfd⟩, hst⟩ (by rw [h5.2.1]; exact h6) h1 hvm hslot rfl rfl hd hk2
            · exact va_WputK hx hb (f := fd) hown (av_wordF C hW0 hw.1 args) hfd hst (by rw [h5.2.1]; exact h6) h1 hvm hslot rfl rfl hd hk2
        · cases h
      · cases h
    · cases h
  · cases h
theorem av_s_arraylength (C : av_ctx cx) (F : av_Fr cx p s m meth c y) (ih : av_IH cx p l e R s m args below meth c y o A' kc ks R0 n) (hd : decode (av_bytes y) pc = .ok (.arraylength, ln)) (hln : ln = av_len (.arraylength) ∨ av_len (.arraylength) = 0) (h : av_stp R0 y n pc L S A (.arraylength) = some (o, A')) (J : av_J cx R y A A' H ls L locs cells slots kc ks) : W p l e R s m args below meth c H locs cells slots (av_Q cx s below o A' kc ks) (F0 m pc ls (S.map (av_cv cx))) := by
  cases av_ln1 hln (k := 1) rfl (by decide)
  obtain ⟨hx, hb, hr, hlocks, hml, hown, hW0, hini, -⟩ := F
  simp only [av_stp, av_step] at h
  split at h
  · next a S1 =>
    split at h
    · next t n1 f hc =>
      obtain ⟨q, hq, cell, h1, h2, h3, h4, h5, h6, h7, h8, h9⟩ := J.1.at hc
      show W p l e R s m args below meth c H locs cells slots _ (F0 m pc ls (av_sg cx a :: _))
      rw [hq]
      exact W.alen hx hb h1 (State.isArrayOf_alike hW0.alike h5) (by rw [h6]) rfl rfl hd (ih _ _ _ _ h _ _ _ _ _ J)
    · cases h
  · cases h
theorem av_s_iaload (C : av_ctx cx) (F : av_Fr cx p s m meth c y) (ih : av_IH cx p l e R s m args below meth c y o A' kc ks R0 n) (hd : decode (av_bytes y) pc = .ok (.iaload, ln)) (hln : ln = av_len (.iaload) ∨ av_len (.iaload) = 0) (h : av_stp R0 y n pc L S A (.iaload) = some (o, A')) (J : av_J cx R y A A' H ls L locs cells slots kc ks) : W p l e R s m args below meth c H locs cells slots (av_Q cx s below o A' kc ks) (F0 m pc ls (S.map (av_cv cx))) := by
  cases av_ln1 hln (k := 1) rfl (by decide)
  obtain ⟨hx, hb, hr, hlocks, hml, hown, hW0, hini, -⟩ := F
  simp only [av_stp, av_step] at h
  split at h
  · next i a S1 =>
    split at h
    · next t n1 f hc =>
      split at h
      · next hcond =>
        obtain ⟨ht, hin⟩ := hcond
        subst ht
        obtain ⟨q, hq, cell, h1, h2, h3, h4, h5, h6, h7, h8, h9⟩ := J.1.at hc
        show W p l e R s m args below meth c H locs cells slots _ (F0 m pc ls (.int i :: av_sg cx a :: _))
        rw [hq]
        have hin := av_nat_in hin
        exact W.iald hx hb h1 (State.isArrayOf_alike hW0.alike h5) h3 (by rw [h6]; exact hin) (h8 _ (Nat.lt_of_not_le fun q => hin (Or.inr q))) rfl rfl hd (ih _ _ _ _ h _ _ _ _ _ J)
      · cases h
    · cases h
  · cases h
theorem av_s_baload (C : av_ctx cx) (F : av_Fr cx p s m meth c y) (ih : av_IH cx p l e R s m args below meth c y o A' kc ks R0 n) (hd : decode (av_bytes y) pc = .ok (.baload, ln)) (hln : ln = av_len (.baload) ∨ av_len (.baload) = 0) (h : av_stp R0 y n pc L S A (.baload) = some (o, A')) (J : av_J cx R y A A' H ls L locs cells slots kc ks) : W p l e R s m args below meth c H locs cells slots (av_Q cx s below o A' kc ks) (F0 m pc ls (S.map (av_cv cx))) := by
  cases av_ln1 hln (k := 1) rfl (by decide)
  obtain ⟨hx, hb, hr, hlocks, hml, hown, hW0, hini, -⟩ := F
  simp only [av_stp, av_step] at h
  split at h
  · next i a S1 =>
    split at h
    · next t n1 f hc =>
      split at h
      · next hcond =>
        obtain ⟨ht, hin⟩ := hcond
        subst ht
        obtain ⟨q, hq, cell, h1, h2, h3, h4, h5, h6, h7, h8, h9⟩ := J.1.at hc
        show W p l e R s m args below meth c H locs cells slots _ (F0 m pc ls (.int i :: av_sg cx a :: _))
        rw [hq]
        have hin := av_nat_in hin
        exact W.bald hx hb h1 (State.isArrayOf_alike hW0.alike h5) h3 (by rw [h6]; exact hin) (h8 _ (Nat.lt_of_not_le fun q => hin (Or.inr q))) rfl rfl hd (ih _ _ _ _ h _ _ _ _ _ J)
      · cases h
    · cases h
  · cases h
theorem av_s_aaload (C : av_ctx cx) (F : av_Fr cx p s m meth c y) (ih : av_IH cx p l e R s m args below meth c y o A' kc ks R0 n) (hd : decode (av_bytes y) pc = .ok (.aaload, ln)) (hln : ln = av_len (.aaload) ∨ av_len (.aaload) = 0) (h : av_stp R0 y n pc L S A (.aaload) = some (o, A')) (J : av_J cx R y A A' H ls L locs cells slots kc ks) : W p l e R s m args below meth c H locs cells slots (av_Q cx s below o A' kc ks) (F0 m pc ls (S.map (av_cv cx))) := by
  cases av_ln1 hln (k := 1) rfl (by decide)
  obtain ⟨hx, hb, hr, hlocks, hml, hown, hW0, hini, -⟩ := F
  simp only [av_stp, av_step] at h
  split at h
  · next i a S1 =>
    split at h
    · next t n1 f hc =>
      split at h
      · next hcond =>
        obtain ⟨ht, hin⟩ := hcond
        obtain ⟨q, hq, cell, h1, h2, h3, h4, h5, h6, h7, h8, h9⟩ := J.1.at hc
        show W p l e R s m args below meth c H locs cells slots _ (F0 m pc ls (.int i :: av_sg cx a :: _))
        rw [hq]
        have hin := av_nat_in hin
        exact W.aald (ty := av_ty t) hx hb h1 (State.isArrayOf_alike hW0.alike h5) (av_ty_ref ht) h3 (by rw [h6]; exact hin) (h8 _ (Nat.lt_of_not_le fun q => hin (Or.inr q))) rfl rfl hd (ih _ _ _ _ h _ _ _ _ _ J)
      · cases h
    · cases h
  · cases h
theorem av_s_iastore (C : av_ctx cx) (F : av_Fr cx p s m meth c y) (ih : av_IH cx p l e R s m args below meth c y o A' kc ks R0 n) (hd : decode (av_bytes y) pc = .ok (.iastore, ln)) (hln : ln = av_len (.iastore) ∨ av_len (.iastore) = 0) (h : av_stp R0 y n pc L S A (.iastore) = some (o, A')) (J : av_J cx R y A A' H ls L locs cells slots kc ks) : W p l e R s m args below meth c H locs cells slots (av_Q cx s below o A' kc ks) (F0 m pc ls (S.map (av_cv cx))) := by
  cases av_ln1 hln (k := 1) rfl (by decide)
  obtain ⟨hx, hb, hr, hlocks, hml, hown, hW0, hini, -⟩ := F
  simp only [av_stp, av_step] at h
  split at h
  · next v i a S1 =>
    split at h
    · next t n1 f hc =>
      split at h
      · next hcond =>
        obtain ⟨ht, hin, haK⟩ := hcond
        subst ht
        obtain ⟨q, hq, cell, h1, h2, h3, h4, h5⟩ := J.1.at hc
        show W p l e R s m args below meth c H locs cells slots _ (F0 m pc ls (.int v :: .int i :: av_sg cx a :: _))
        rw [hq]
        have hin := av_nat_in hin
        have hlt : i.toNatClampNeg < n1 := Nat.lt_of_not_le fun q => hin (Or.inr q)
        exact W.iast hx hb h1 (State.isArrayOf_alike hW0.alike h5.1) h3 (by rw [h5.2.1]; exact hin) rfl rfl hd (fun H' g1 g2 g3 => ih _ _ _ _ h _ _ _ _ _ ⟨J.1.set hc haK hq g2 g3 (av_cell_ast (v := .int v) hlt h2 h3 h4 h5 g1), J.2.1, av_lcs J.2.2.1 (av_new_at haK hq), J.2.2.2⟩)
      · cases h
    · cases h
  · cases h
theorem av_s_bastore (C : av_ctx cx) (F : av_Fr cx p s m meth c y) (ih : av_IH cx p l e R s m args below meth c y o A' kc ks R0 n) (hd : decode (av_bytes y) pc = .ok (.bastore, ln)) (hln : ln = av_len (.bastore) ∨ av_len (.bastore) = 0) (h : av_stp R0 y n pc L S A (.bastore) = some (o, A')) (J : av_J cx R y A A' H ls L locs cells slots kc ks) : W p l e R s m args below meth c H locs cells slots (av_Q cx s below o A' kc ks) (F0 m pc ls (S.map (av_cv cx))) := by
  cases av_ln1 hln (k := 1) rfl (by decide)
  obtain ⟨hx, hb, hr, hlocks, hml, hown, hW0, hini, -⟩ := F
  simp only [av_stp, av_step] at h
  split at h
  · next v i a S1 =>
    split at h
    · next t n1 f hc =>
      split at h
      · next hcond =>
        obtain ⟨ht, hin, haK⟩ := hcond
        subst ht
        obtain ⟨q, hq, cell, h1, h2, h3, h4, h5⟩ := J.1.at hc
        show W p l e R s m args below meth c H locs cells slots _ (F0 m pc ls (.int v :: .int i :: av_sg cx a :: _))
        rw [hq]
        have hin := av_nat_in hin
        have hlt : i.toNatClampNeg < n1 := Nat.lt_of_not_le fun q => hin (Or.inr q)
        exact W.bast hx hb h1 (State.isArrayOf_alike hW0.alike h5.1) h3 (by rw [h5.2.1]; exact hin) rfl rfl hd (fun H' g1 g2 g3 => ih _ _ _ _ h _ _ _ _ _ ⟨J.1.set hc haK hq g2 g3 (av_cell_ast (v := .int v.toInt8.toInt32) hlt h2 h3 h4 h5 g1), J.2.1, av_lcs J.2.2.1 (av_new_at haK hq), J.2.2.2⟩)
      · cases h
    · cases h
  · cases h
end SNE

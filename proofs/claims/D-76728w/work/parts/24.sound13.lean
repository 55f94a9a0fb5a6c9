/-! ===== SOUNDNESS, 14: arrays of references, copies ===== -/
section SND13
variable {cx : av_X} {p : Program} {l : Launch} {e : Env} {R : Room} {s : State} {m : MethodId} {args : Array Value} {below : List Frame} {meth : Method} {c : Code} {y : Nat} {o : av_R} {A' : av_H} {kc ks : Nat} {R0 : Nat → List Value → av_H → Option (av_R × av_H)}
variable {n pc ln : Nat} {L : av_L} {S : List Value} {A : av_H} {H : Heap} {ls : Array Slot} {locs : List Loc} {cells slots : Nat}
theorem av_over (C : av_ctx cx) (hW : cx.1.WarmedH s.vm) {ty : FieldType} (hty : (∃ n, ty = .object n) ∨ ∃ t, ty = .array t) (h : Cond.arrayOver ty ∈ lw_tbl) (a' : Array Value) : (Cond.arrayOver ty).before a' s = true := by
  obtain ⟨A0, hA⟩ := C.1
  have h0 := hA _ h
  rcases hty with ⟨n, rfl⟩ | ⟨t, rfl⟩
  · exact va_AO.use (va_AO.moved hW.alike (va_AO.of h0))
  · exact over_moved hW.alike h0
theorem av_nn {z : Int32} (hz : ¬ z < 0) : z.toInt = (z.toNatClampNeg : Int) := by
  have hz0 : (0 : Int) ≤ z.toInt := by
    have := Int32.not_lt.mp hz
    simpa using Int32.le_iff_toInt_le.mp this
  show z.toInt = ((z.toInt.toNat : Nat) : Int)
  omega
theorem av_asgk {t k : Nat} (h : av_asg t k = true) : k < 256 ∧ (k < 100 ∨ 200 ≤ k) := by
  unfold av_asg at h
  have hm := av_look_mem (of_decide_eq_true h)
  have hall : av_asgL.all (fun e => decide (e.2 < 256) && (decide (e.2 < 100) || decide (200 ≤ e.2))) = true := by decide +kernel
  rw [List.all_eq_true] at hall
  have h2 := hall _ hm
  simp only [Bool.and_eq_true, Bool.or_eq_true, decide_eq_true_eq] at h2
  exact h2
theorem av_s_anewarray {ix : Nat} (C : av_ctx cx) (F : av_Fr cx p s m meth c y) (hsz : ∀ n pc L S A o A', av_exec R0 y n pc L S A = some (o, A') → av_le A A') (ih : av_IH cx p l e R s m args below meth c y o A' kc ks R0 n) (hd : decode (av_bytes y) pc = .ok (.anewarray ix, ln)) (hln : ln = av_len (.anewarray ix) ∨ av_len (.anewarray ix) = 0) (h : av_stp R0 y n pc L S A (.anewarray ix) = some (o, A')) (J : av_J cx R y A A' H ls L locs cells slots kc ks) : W p l e R s m args below meth c H locs cells slots (av_Q cx s below o A' kc ks) (F0 m pc ls (S.map (av_cv cx))) := by
  cases av_ln1 hln (k := 3) rfl (by decide)
  obtain ⟨hx, hb, hr, hlocks, hml, hown, hW0, hini, -⟩ := F
  simp only [av_stp, av_step] at h
  split at h
  · next v S1 =>
    split at h
    · next t ht =>
      split at h
      · next hv =>
        obtain ⟨hv0, hv1⟩ := hv
        have hle := hsz _ _ _ _ _ _ _ h
        have hle1 : A.1 + 1 ≤ A'.1 := hle.1
        have hle2 : A.2.1 + v.toNatClampNeg ≤ A'.2.1 := hle.2
        obtain ⟨j1, j2, j3, j4, j5, j6, j7⟩ := J
        have hn : ¬ v < 0 := Int32.not_lt.mpr hv0
        have hnk : v.toNatClampNeg ≤ 100000 := by
          have h1 := Int32.le_iff_toInt_le.mp hv1
          have h2 := av_nn hn
          have h3 : (100000 : Int32).toInt = 100000 := by decide
          rw [h3] at h1
          omega
        obtain ⟨htok, ht10, hways⟩ := C.2.2.2.2.2.2.2.1 _ _ _ ht
        obtain ⟨kA0, comp0, q1, q2, q3, -⟩ := C.2.2.1 t htok
        have hnew : av_sg cx A.1 = .ref H.size := by rw [av_sg_new j1.1, j1.2.1]
        have fin : ∀ (cA : ClassId) (kA : Class) (comp : ClassId) (ty : FieldType), av_ty t = ty → s.vm.findClass ("[" ++ ty.toString) = some cA → s.vm.classes[cA]? = some kA → kA.kind = .array comp ty →
            W p l e R s m args below meth c (H.push { cls := cA, slots := Array.replicate v.toNatClampNeg .null, vm := .none }) locs (cells + 1) (slots + v.toNatClampNeg) (av_Q cx s below o A' kc ks) (F0 m (pc + 3) ls (.ref H.size :: S1.map (av_cv cx))) := by
          intro cA kA comp ty hty f1 f2 f3
          have hcA : cx.2.2.2.1 t = cA := by
            rw [← hty, hW0.alike.findClass, q1] at f1
            exact Option.some.inj f1
          subst hcA
          have hcell : av_cell cx A.1 (.inr (t, v.toNatClampNeg, fun _ => .null)) H.size (H.push { cls := cx.2.2.2.1 t, slots := Array.replicate v.toNatClampNeg .null, vm := .none }) := by
            refine ⟨_, Array.getElem?_push_size, rfl, fun q => (by cases q), fun _ => rfl, ⟨fun q hq => (by cases hq), kA0, q2, comp0, q3⟩, by simp, by omega, fun i hi => ?_, fun _ => rfl⟩
            simp [hi]
            rfl
          have hk2 := ih _ _ _ _ h _ ls locs (cells + 1) (slots + v.toNatClampNeg) ⟨j1.new (by simp) (fun z hz => by rw [Array.getElem?_push_lt hz, Array.getElem?_eq_getElem hz]) hcell, j2, j3, (by show cells + 1 + (A'.1 - (A.1 + 1)) ≤ kc; omega), (by show slots + v.toNatClampNeg + (A'.2.1 - (A.2.1 + v.toNatClampNeg)) ≤ ks; omega), j6, j7⟩
          rw [show (Value.ref A.1 :: S1).map (av_cv cx) = av_sg cx A.1 :: S1.map (av_cv cx) from rfl, hnew] at hk2
          exact hk2
        rcases hways with ⟨Cn, hty, hlk, hov⟩ | ⟨rfl, hlk, hov⟩
        · exact W.anew hx hb hown (av_word C hW0 hlk args) (av_over C hW0 (Or.inl ⟨_, rfl⟩) hov args) rfl hd rfl hn (by omega) (by omega) (by omega) (fun cA kA comp f1 f2 f3 _ => fin cA kA comp _ hty f1 f2 f3)
        · exact W.anewA hx hb (t := .int) hown (av_word C hW0 hlk args) (av_over C hW0 (Or.inr ⟨_, rfl⟩) hov args) rfl hd rfl hn (by omega) (by omega) (by omega) (fun cA kA comp f1 f2 f3 _ => fin cA kA comp _ rfl f1 f2 f3)
      · cases h
    · cases h
  · cases h
theorem av_s_aastore (C : av_ctx cx) (F : av_Fr cx p s m meth c y) (ih : av_IH cx p l e R s m args below meth c y o A' kc ks R0 n) (hd : decode (av_bytes y) pc = .ok (.aastore, ln)) (hln : ln = av_len (.aastore) ∨ av_len (.aastore) = 0) (h : av_stp R0 y n pc L S A (.aastore) = some (o, A')) (J : av_J cx R y A A' H ls L locs cells slots kc ks) : W p l e R s m args below meth c H locs cells slots (av_Q cx s below o A' kc ks) (F0 m pc ls (S.map (av_cv cx))) := by
  cases av_ln1 hln (k := 1) rfl (by decide)
  obtain ⟨hx, hb, hr, hlocks, hml, hown, hW0, hini, -⟩ := F
  simp only [av_stp, av_step] at h
  split at h
  · next i a S1 =>
    split at h
    · next t nn f hc =>
      split at h
      · next hcond =>
        obtain ⟨ht10, ht20, n12, n16, n19, hin, haK⟩ := hcond
        obtain ⟨q, hq, cell, h1, h2, h3, h4, h5⟩ := J.1.at hc
        have hin' := av_nat_in hin
        have hlt : i.toNatClampNeg < nn := by omega
        have hty : ∃ Cn, av_ty t = .object Cn := by
          unfold av_ty
          split <;> first | exact ⟨_, rfl⟩ | omega
        obtain ⟨Cn, hty⟩ := hty
        have harr := State.isArrayOf_alike hW0.alike h5.1
        rw [hty] at harr
        rw [show (Value.null :: Value.int i :: Value.ref a :: S1).map (av_cv cx) = .null :: .int i :: av_sg cx a :: S1.map (av_cv cx) from rfl, hq]
        exact va_WaastN (C := Cn) hx hb h1 harr h3 (by rw [h5.2.1]; exact hin') rfl rfl hd (fun H' g1 g2 g3 => ih _ _ _ _ h _ _ _ _ _ ⟨J.1.set hc haK hq g2 g3 (av_cell_ast (v := .null) hlt h2 h3 h4 h5 g1), J.2.1, av_lcs J.2.2.1 (av_new_at haK hq), J.2.2.2⟩)
      · cases h
    · cases h
  · next v i a S1 =>
    split at h
    · next t nn f cl hc hv =>
      split at h
      · next hcond =>
        obtain ⟨ht10, hin, haK, hasg⟩ := hcond
        obtain ⟨q, hq, hcellA⟩ := J.1.at hc
        obtain ⟨cell, h1, h2, h3, h4, h5⟩ := hcellA
        obtain ⟨qv, hqv, hcellV⟩ := J.1.at hv
        have hin' := av_nat_in hin
        have hlt : i.toNatClampNeg < nn := by omega
        obtain ⟨htok, hall⟩ := C.2.2.2.2.2.2.1 _ _ hasg
        obtain ⟨kA, comp, q1, q2, q3, -⟩ := C.2.2.1 t htok
        obtain ⟨kcomp, hkcomp, hassign⟩ := hall comp ⟨kA, q2, q3⟩
        have hkk := av_asgk hasg
        obtain ⟨cellV, g1, g2, g3⟩ := av_kcls hcellV hkk.1 hkk.2
        obtain ⟨kv, hkv⟩ : ∃ kcell, s.vm.classes[cellV.cls]? = some kcell := av_cellcls C hW0 hcellV g1
        have hcls : cell.cls = cx.2.2.2.1 t := h5.2.2.2.2 haK
        obtain ⟨kA', hkA', heA⟩ := hW0.alike.2.2 _ _ q2
        obtain ⟨kcomp', hkcomp', -⟩ := hW0.alike.2.2 _ _ hkcomp
        rw [show (Value.ref v :: Value.int i :: Value.ref a :: S1).map (av_cv cx) = av_sg cx v :: .int i :: av_sg cx a :: S1.map (av_cv cx) from rfl, hq, hqv]
        refine W.aast hx hb h1 (fun z hz => by rw [hz] at h2; cases h2) h3 (k := kA') (by rw [hcls]; exact hkA') (by rw [heA]; exact q3) (av_ty_ref ht10) hkcomp' ⟨fun hh => hin' (Or.inl hh), by rw [h5.2.1]; exact hlt⟩ g1 (fun z hz => by rw [hz] at g2; cases g2) hkv (by rw [hW0.alike.assignable, g3]; exact hassign) rfl rfl hd (fun H' e1 e2 e3 => ?_)
        rw [← hqv, show av_sg cx v = av_cv cx (.ref v) from rfl] at e1
        exact ih _ _ _ _ h _ _ _ _ _ ⟨J.1.set hc haK hq e2 e3 (av_cell_ast (v := .ref v) hlt h2 h3 h4 h5 e1), J.2.1, av_lcs J.2.2.1 (av_new_at haK hq), J.2.2.2⟩
      · cases h
    · cases h
  · cases h
theorem av_inX {o ix t u : Nat} (h : av_lnX o ix = some (t, u)) : ∃ Cn, av_ty u = .object Cn ∧ av_ty t = .array (.object Cn) ∧ Cond.classLink (av_on o) ix ("[" ++ (FieldType.array (.object Cn)).toString) ∈ lw_tbl ∧ Cond.arrayOver (.array (.object Cn)) ∈ lw_tbl ∧ Cond.arrayClass (.object Cn) ∈ lw_tbl ∧ av_tOK t = true ∧ av_tOK u = true := by
  unfold av_lnX at h
  split at h
  · next hx =>
    obtain ⟨b, hb⟩ := av_look_zip av_okX.2 h av_okX.1
    obtain ⟨e1, e2⟩ := av_div o hx
    simp only [e1, e2] at hb
    split at hb
    · next Cn hu =>
      simp only [Bool.and_eq_true, decide_eq_true_eq] at hb
      obtain ⟨⟨⟨⟨⟨b1, b2⟩, b3⟩, b4⟩, b5⟩, b6⟩ := hb
      exact ⟨Cn, hu, b4, av_is_in b1, av_is_in b2, av_is_in b3, by simp [av_tOK, b5.1, b5.2], by simp [av_tOK, b6.1, b6.2]⟩
    · cases hb
  · cases h
theorem av_s_multianewarray {ix dm : Nat} (C : av_ctx cx) (F : av_Fr cx p s m meth c y) (hsz : ∀ n pc L S A o A', av_exec R0 y n pc L S A = some (o, A') → av_le A A') (ih : av_IH cx p l e R s m args below meth c y o A' kc ks R0 n) (hd : decode (av_bytes y) pc = .ok (.multianewarray ix dm, ln)) (hln : ln = av_len (.multianewarray ix dm) ∨ av_len (.multianewarray ix dm) = 0) (h : av_stp R0 y n pc L S A (.multianewarray ix dm) = some (o, A')) (J : av_J cx R y A A' H ls L locs cells slots kc ks) : W p l e R s m args below meth c H locs cells slots (av_Q cx s below o A' kc ks) (F0 m pc ls (S.map (av_cv cx))) := by
  cases av_ln1 hln (k := 4) rfl (by decide)
  obtain ⟨hx, hb, hr, hlocks, hml, hown, hW0, hini, -⟩ := F
  by_cases hdm : dm = 2
  · subst hdm
    simp only [av_stp, av_step] at h
    split at h
    · next kk nn S1 =>
      split at h
      · next t u ht =>
        split at h
        · next hv =>
          obtain ⟨hn0, hn1, hk0, hk1⟩ := hv
          obtain ⟨Cn, hu, htt, hlk, hov, hac, htok, huok⟩ := av_inX ht
          have hle := hsz _ _ _ _ _ _ _ h
          have hle1 : A.1 + 1 + nn.toNatClampNeg ≤ A'.1 := hle.1
          have hle2 : A.2.1 + (nn.toNatClampNeg + nn.toNatClampNeg * kk.toNatClampNeg) ≤ A'.2.1 := hle.2
          obtain ⟨j1, j2, j3, j4, j5, j6, j7⟩ := J
          have hnn : ¬ nn < 0 := Int32.not_lt.mpr (Int32.le_of_lt hn0)
          have hkn : ¬ kk < 0 := Int32.not_lt.mpr hk0
          have h100 : (100 : Int32).toInt = 100 := by decide
          have hb1 : nn.toNatClampNeg ≤ 100 := by
            have h1 := Int32.le_iff_toInt_le.mp hn1
            have h2 := av_nn hnn
            rw [h100] at h1
            omega
          have hb2 : kk.toNatClampNeg ≤ 100 := by
            have h1 := Int32.le_iff_toInt_le.mp hk1
            have h2 := av_nn hkn
            rw [h100] at h1
            omega
          obtain ⟨kA0, comp0, q1, q2, q3, -⟩ := C.2.2.1 t htok
          obtain ⟨kB0, compB, w1, w2, w3, -⟩ := C.2.2.1 u huok
          have hnew : av_sg cx A.1 = .ref H.size := by rw [av_sg_new j1.1, j1.2.1]
          rw [show (Value.int kk :: Value.int nn :: S1).map (av_cv cx) = .int kk :: .int nn :: S1.map (av_cv cx) from rfl]
          intro T hT X
          obtain ⟨vm₁, cA, comp, hW, hfA, hfC, hO, hI, X1, step⟩ := X.multianewarray2F hx (ty := .object Cn) hown (av_wordT C hW0 hlk rfl args) (av_over C hW0 (Or.inr ⟨_, rfl⟩) hov args) (av_wordT C hW0 hac rfl args) (g := F0 m pc ls (.int kk :: .int nn :: S1.map (av_cv cx))) rfl (by rw [hb]; exact hd) rfl hnn hkn (by omega) (by show _ * 4 ≤ _; omega) (by omega) rfl rfl (by omega) (by omega)
          have hcA : cx.2.2.2.1 t = cA := by
            rw [← htt, hW0.alike.findClass, q1] at hfA
            exact Option.some.inj hfA
          have hcB : cx.2.2.2.1 u = comp := by
            rw [hu] at w1
            rw [hW0.alike.findClass] at hfC
            exact Option.some.inj (w1.symm.trans hfC)
          subst hcA hcB
          obtain ⟨z1, z2, z3, z4⟩ := Jvm.Free.Multi.fill_facts (T.setVm vm₁) (cx.2.2.2.1 t) (cx.2.2.2.1 u) nn.toNatClampNeg kk.toNatClampNeg (defaultValue (.object Cn)) nn.toNatClampNeg
          have hTh : (T.setVm vm₁).heap = H := hT
          rw [hTh] at z1 z2
          have hold := fun (a : Nat) (ha : a < H.size) => Jvm.Free.Multi.fill_old (T.setVm vm₁) (cx.2.2.2.1 t) (cx.2.2.2.1 u) nn.toNatClampNeg kk.toNatClampNeg (defaultValue (.object Cn)) (a := a) (by rw [hTh]; exact ha) nn.toNatClampNeg
          have hinn := fun j hj => Jvm.Free.Multi.fill_inner (T.setVm vm₁) (cx.2.2.2.1 t) (cx.2.2.2.1 u) nn.toNatClampNeg kk.toNatClampNeg (defaultValue (.object Cn)) nn.toNatClampNeg j hj
          rw [hTh] at hold hinn
          have hsl := Jvm.Free.Multi.outerC_slot (cx.2.2.2.1 t) nn.toNatClampNeg H.size nn.toNatClampNeg
          obtain ⟨y1, y2, y3⟩ := Jvm.Free.Multi.outerC_facts (cx.2.2.2.1 t) nn.toNatClampNeg H.size nn.toNatClampNeg
          generalize hG : (Jvm.Free.Multi.fill (T.setVm vm₁) (cx.2.2.2.1 t) (cx.2.2.2.1 u) nn.toNatClampNeg kk.toNatClampNeg (defaultValue (.object Cn)) nn.toNatClampNeg) = G at X1 step z1 z2 hold hinn
          have hdv : defaultValue (.object Cn) = .null := rfl
          obtain ⟨r1, r2, r3, r4⟩ := j1
          have hsgj : ∀ j, av_sg cx (A.1 + 1 + j) = .ref (H.size + 1 + j) := fun j => by rw [av_sg_new (Nat.le_trans r1 (by omega))]; exact congrArg Value.ref (show (cx.1.heap.size + (A.1 + 1 + j - av_K) : Nat) = (H.size + 1 + j : Nat) from by have q2 := r2; have q1 := r1; omega)
          have hrel : av_rel cx (A.1 + 1 + nn.toNatClampNeg, A.2.1 + (nn.toNatClampNeg + nn.toNatClampNeg * kk.toNatClampNeg), fun b => if b < A.1 then A.2.2 b else if b = A.1 then some (.inr (t, nn.toNatClampNeg, fun j => .ref (A.1 + 1 + j)))
              else if b < A.1 + 1 + nn.toNatClampNeg then some (.inr (u, kk.toNatClampNeg, fun _ => .null)) else none) G.heap := by
            refine ⟨Nat.le_trans r1 (by show A.1 ≤ A.1 + 1 + nn.toNatClampNeg; omega), (by have q1 := z1; have q2 := r2; have q3 := r1; show G.heap.size = cx.1.heap.size + (A.1 + 1 + nn.toNatClampNeg - av_K); omega), fun q hq => by rw [hold q (by omega)]; exact r3 q hq, fun b cb hcb => ?_⟩
            dsimp only at hcb ⊢
            split at hcb
            · next hlt =>
              obtain ⟨p1, q', p2, p3, cell, p4, p5⟩ := r4 b cb hcb
              exact ⟨by omega, q', p2, p3, cell, by rw [hold q' (Array.getElem?_eq_some_iff.mp p4).1]; exact p4, p5⟩
            · split at hcb
              · next heq =>
                cases hcb
                subst heq
                refine ⟨by omega, H.size, hnew, fun hl => by omega, _, z2, by rw [y2]; rfl, by rw [y2]; exact fun q => (by cases q), fun _ => y2, ⟨by rw [y2]; exact fun q hq => (by cases hq), kA0, by rw [y1]; exact q2, comp0, q3⟩, y3, by omega, fun i hi => ?_, fun _ => y1⟩
                rw [hsl i hi, if_pos hi]
                show _ = some (av_sg cx (A.1 + 1 + i))
                rw [hsgj]
              · split at hcb
                · next hne hlt2 =>
                  cases hcb
                  have hb : b = A.1 + 1 + (b - (A.1 + 1)) := by omega
                  have hin := hinn (b - (A.1 + 1)) (by omega)
                  refine ⟨hlt2, H.size + 1 + (b - (A.1 + 1)), by rw [hb]; rw [hsgj]; congr 2; omega, fun hl => by omega, _, hin, rfl, fun q => (by cases q), fun _ => rfl, ⟨fun q hq => (by cases hq), kB0, w2, compB, w3⟩, by simp [Jvm.Free.Multi.innerC], by omega, fun i hi => ?_, fun _ => rfl⟩
                  simp [Jvm.Free.Multi.innerC, hi, hdv]
                  rfl
                · cases hcb
          have hk2 := ih _ _ _ _ h G.heap ls locs (cells + 1 + nn.toNatClampNeg) (slots + nn.toNatClampNeg + nn.toNatClampNeg * kk.toNatClampNeg) ⟨hrel, j2, j3, (by show cells + 1 + nn.toNatClampNeg + (A'.1 - (A.1 + 1 + nn.toNatClampNeg)) ≤ kc; omega), (by show slots + nn.toNatClampNeg + nn.toNatClampNeg * kk.toNatClampNeg + (A'.2.1 - (A.2.1 + (nn.toNatClampNeg + nn.toNatClampNeg * kk.toNatClampNeg))) ≤ ks; omega), j6, j7⟩
          rw [show (Value.ref A.1 :: S1).map (av_cv cx) = av_sg cx A.1 :: S1.map (av_cv cx) from rfl, hnew] at hk2
          obtain ⟨tt, a1, b1⟩ := hk2 G rfl X1
          refine ⟨tt, step _ ?_, b1⟩
          rw [hT]
          exact a1
        · cases h
      · cases h
    · cases h
  · exfalso
    match dm, hdm, h with
    | 0, _, h => cases (show (none : Option (av_R × av_H)) = some (o, A') from h)
    | 1, _, h => cases (show (none : Option (av_R × av_H)) = some (o, A') from h)
    | 2, hdm, _ => exact hdm rfl
    | k + 3, _, h => cases (show (none : Option (av_R × av_H)) = some (o, A') from h)
theorem av_arraycopy (C : av_ctx cx) (hlo : 3200 ≤ R.locals) (hfr : 1 ≤ R.frames) (F : av_Fr cx p s m meth c y) {ix : Nat} (ih : av_IH cx p l e R s m args below meth c y o A' kc ks R0 n) (hd : decode (av_bytes y) pc = .ok (.invokestatic ix, ln)) (hln : ln = av_len (.invokestatic ix) ∨ av_len (.invokestatic ix) = 0) (J : av_J cx R y A A' H ls L locs cells slots kc ks)
    (hz : av_lnM (av_own y) ix = some 1001) (h : av_stp R0 y n pc L S A (.invokestatic ix) = some (o, A')) : W p l e R s m args below meth c H locs cells slots (av_Q cx s below o A' kc ks) (F0 m pc ls (S.map (av_cv cx))) := by
  cases av_ln1 hln (k := 3) rfl (by decide)
  obtain ⟨hx, hb, hr, hlocks, hml, hown, hW0, hini, -⟩ := F
  obtain ⟨hxn, hnest0, hnat, hsta, hini⟩ := av_okAc
  have hw : Cond.methodLink (av_on (av_own y)) ix (av_xn 1001) ∈ lw_tbl := by
    rcases av_inM hz with hw | hw
    · exact hw
    · exact absurd (hw.2.2.2.symm.trans hnest0) (by decide)
  rw [hxn] at hw hnat hsta
  simp only [av_stp, av_step, hz, if_true] at h
  split at h
  · next nn dp d sp b S1 =>
    split at h
    · next t mm f u kk g hc1 hc2 =>
      split at h
      · next hcond =>
        obtain ⟨hlen, rfl, htk, hels, hn0, hd0, hs0, hb1, hb2, hdK, hbd⟩ := hcond
        obtain ⟨qb, hqb, cellB, b1, b2, b3, b4, b5⟩ := J.1.at hc1
        obtain ⟨qd, hqd, cellD, d1, d2, d3, d4, d5⟩ := J.1.at hc2
        have htok : av_tOK t = true := by
          rcases htk with htk | htk
          · have : t = 0 ∨ t = 1 := by omega
            rcases this with rfl | rfl <;> rfl
          · simp [av_tOK, htk.1, htk.2]
        obtain ⟨kA, comp, q1, q2, q3, -⟩ := C.2.2.1 t htok
        obtain ⟨-, kB, hkB, compB, hkindB⟩ := State.isArrayOf_alike hW0.alike b5.1
        obtain ⟨kD, hkD, heD⟩ := hW0.alike.2.2 _ _ q2
        have hclsD : cellD.cls = cx.2.2.2.1 t := d5.2.2.2.2 hdK
        have hn : ¬ nn < 0 := Int32.not_lt.mpr hn0
        have hdp : ¬ dp < 0 := Int32.not_lt.mpr hd0
        have hsp : ¬ sp < 0 := Int32.not_lt.mpr hs0
        have hread : ∀ i, i < nn.toNatClampNeg → cellB.slots.getD (sp.toNatClampNeg + i) .null = av_cv cx (f (sp.toNatClampNeg + i)) := by
          intro i hi
          rw [Array.getD_eq_getD_getElem?, b5.2.2.2.1 _ (by omega)]
          rfl
        rw [show (Value.int nn :: Value.int dp :: Value.ref d :: Value.int sp :: Value.ref b :: S1).map (av_cv cx) = .int nn :: .int dp :: av_sg cx d :: .int sp :: av_sg cx b :: S1.map (av_cv cx) from rfl, hqb, hqd]
        have hsum := av_sum_le cx S1 12 hlen
        intro T hT X
        obtain ⟨vm', X', step⟩ := X.arraycopy hx hown (av_wordT C hW0 hw rfl args) (av_wordT C hW0 (av_is_in hnat) rfl args) (av_wordT C hW0 (av_is_in hsta) rfl args) (av_wordT C hW0 (av_is_in hini) rfl args) (src := qb) (dst := qd) (cs := cellB) (cd := cellD) (srcPos := sp) (destPos := dp) (n := nn) (by rw [hT]; exact b1) (by rw [hT]; exact d1)
          (fun _ h => by rw [h] at b2; cases b2) (fun _ h => by rw [h] at d2; cases d2) b3 d3 hkB (by rw [hclsD]; exact hkD) hkindB (by rw [heD]; exact q3) (by cases refKind (av_ty t) <;> simp) hsp hdp hn
          (by rw [av_nn hsp, av_nn hn, b5.2.1]; omega)
          (by rw [av_nn hdp, av_nn hn, d5.2.1]; omega)
          (fun vm₁ hal i hi => by
            rw [hread i hi]
            rw [List.all_eq_true] at hels
            have hel := hels i (List.mem_range.mpr hi)
            unfold av_elt at hel
            split at hel
            · have : t = 0 ∨ t = 1 := by omega
              rcases this with rfl | rfl
              · refine ⟨(av_ok_fit (cx := cx) (ty := .int) hel).2, ?_⟩
                generalize f (sp.toNatClampNeg + i) = w at hel
                cases w <;> simp [av_ok] at hel
                exact trivial
              · refine ⟨(av_ok_fit (cx := cx) (ty := .byte) hel).2, ?_⟩
                generalize f (sp.toNatClampNeg + i) = w at hel
                cases w <;> simp [av_ok] at hel
                exact trivial
            · next ht10 =>
              have hrf := av_ty_ref (t := t) (by omega)
              split at hel
              · next he =>
                rw [he]
                refine ⟨?_, trivial⟩
                cases hty : av_ty t <;> rw [hty] at hrf <;> first | rfl | cases hrf
              · next a he =>
                rw [he]
                split at hel
                · next cl hcl =>
                  obtain ⟨qv, hqv, hcellV⟩ := J.1.at hcl
                  have hkk := av_asgk hel
                  obtain ⟨cellV, g1, g2, g3⟩ := av_kcls hcellV hkk.1 hkk.2
                  obtain ⟨-, hall⟩ := C.2.2.2.2.2.2.1 _ _ hel
                  obtain ⟨kcomp, hkcomp, hassign⟩ := hall comp ⟨kA, q2, q3⟩
                  obtain ⟨kv, hkv⟩ : ∃ kcell, s.vm.classes[cellV.cls]? = some kcell := av_cellcls C hW0 hcellV g1
                  have hal2 : cx.1.vm.Alike vm₁ := hW0.alike.trans hal
                  obtain ⟨kv', hkv', -⟩ := hal.2.2 _ _ hkv
                  obtain ⟨kcomp', hkcomp', -⟩ := hal2.2.2 _ _ hkcomp
                  rw [show av_cv cx (.ref a) = av_sg cx a from rfl, hqv]
                  refine ⟨?_, cellV, by show T.heap[qv]? = _; rw [hT]; exact g1, fun z hz => (by rw [hz] at g2; cases g2), ⟨kv', hkv'⟩, ⟨kcomp', hkcomp'⟩, by show vm₁.assignable _ _ = _; rw [hal2.assignable, g3]; exact hassign⟩
                  cases hty : av_ty t <;> rw [hty] at hrf <;> first | rfl | cases hrf
                · cases hel
              · cases hel)
          (g := F0 m pc ls (.int nn :: .int dp :: .ref qd :: .int sp :: .ref qb :: S1.map (av_cv cx))) rfl (J.2.1.1.trans hml.symm) (rest := S1.map (av_cv cx)) rfl (by rw [hb]; exact hd) hfr (by
            have hnf : nativeFrameWords "java/lang/System" "arraycopy" 5 ≤ 1000 := by decide
            show 2 * 0 + _ + _ ≤ _
            omega)
        have hlt : qd < H.size := (Array.getElem?_eq_some_iff.mp d1).1
        have hheap : ((T.setVm vm').setCell qd (copied cellB cellD sp dp nn)).heap = H.setIfInBounds qd (copied cellB cellD sp dp nn) := by rw [← hT]; rfl
        obtain ⟨f1, f2, f3, -⟩ := Cell.storeRun_facts cellD dp.toNatClampNeg (cellB.stretch sp.toNatClampNeg nn.toNatClampNeg)
        have hstl : (cellB.stretch sp.toNatClampNeg nn.toNatClampNeg).length = nn.toNatClampNeg := by simp [Cell.stretch]
        have hcell : av_cell cx d (.inr (t, kk, av_cpy f g sp.toNatClampNeg dp.toNatClampNeg nn.toNatClampNeg)) qd (H.setIfInBounds qd (copied cellB cellD sp dp nn)) := by
          refine ⟨copied cellB cellD sp dp nn, by simp [Array.getElem?_setIfInBounds, hlt], by rw [f2]; exact d2, by rw [f2]; exact d3, fun hK => by rw [f2]; exact d4 hK, ?_, by rw [f3]; exact d5.2.1, d5.2.2.1, fun i hi => ?_, fun hK => by rw [f1]; exact d5.2.2.2.2 hK⟩
          · obtain ⟨g1, g2⟩ := d5.1
            refine ⟨fun z hz => g1 z (by rw [← f2]; exact hz), ?_⟩
            rw [f1]
            exact g2
          · rw [Cell.storeRun_get _ _ _ _ (by rw [hstl, d5.2.1]; omega), hstl]
            unfold av_cpy
            by_cases hi2 : dp.toNatClampNeg ≤ i ∧ i < dp.toNatClampNeg + nn.toNatClampNeg
            · rw [if_pos hi2, if_pos hi2]
              unfold Cell.stretch
              rw [List.getElem?_map, List.getElem?_range (by omega)]
              simp only [Option.map_some]
              rw [hread _ (by omega)]
            · rw [if_neg hi2, if_neg hi2]
              exact d5.2.2.2.1 i hi
        have hrel := J.1.set hc2 hdK hqd (c' := .inr (t, kk, av_cpy f g sp.toNatClampNeg dp.toNatClampNeg nn.toNatClampNeg)) (H' := H.setIfInBounds qd (copied cellB cellD sp dp nn)) (by simp) (fun z hz => by simp [Array.getElem?_setIfInBounds, Ne.symm hz]) hcell
        obtain ⟨tt, a1, e1⟩ := ih _ _ _ _ h _ ls _ cells slots ⟨hrel, J.2.1, (fun z hz => by
            rcases List.mem_append.mp hz with hz | hz
            · exact J.2.2.1 z hz
            · obtain ⟨w, -, rfl⟩ := List.mem_map.mp hz
              exact av_new_at hdK hqd), J.2.2.2⟩ _ hheap X'
        exact ⟨tt, step tt a1, e1⟩
      · cases h
    · cases h
  · cases h
end SND13

/-! ===== one rule for each instruction: methods 16 17 93 ===== -/
set_option maxRecDepth 100000
/-- StockEvents.feed(I)I -/
theorem xf16 (pc : Nat) (i : Instr) (h : (av_look av_b16 pc).map Prod.fst = some i) : av_fetch 16 pc = some i := h
theorem x16_0 {d : Nat} {Q : av_R → av_H → Prop} {L : av_L} {S : List Value} {A : av_H} : av_g d 16 Q 0 L S A = match av_lget L 1 with | some (.int v) => av_g d 16 Q 1 L (.int v :: S) A | _ => False := by
  rw [av_g_iff (xf16 0 (.iload_n 1) rfl)]; rfl
theorem x16_1 {d : Nat} {Q : av_R → av_H → Prop} {L : av_L} {S : List Value} {A : av_H} {a : Int32} : av_g d 16 Q 1 L (.int a :: S) A = av_g d 16 Q 2 L (.long a.toInt64 :: S) A := by
  rw [av_g_iff (xf16 1 .i2l rfl)]; rfl
theorem x16_2 {d : Nat} {Q : av_R → av_H → Prop} {L : av_L} {S : List Value} {A : av_H} : av_g d 16 Q 2 L S A = av_g d 16 Q 3 L (.long 1 :: S) A := by
  rw [av_g_iff (xf16 2 (.lconst 1) rfl)]; rfl
theorem x16_3 {d : Nat} {Q : av_R → av_H → Prop} {L : av_L} {S : List Value} {A : av_H} : av_g d 16 Q 3 L S A = av_g d 16 Q 6 L (.long (255) :: S) A := by
  rw [av_g_iff (xf16 3 (.ldc2_w 37) rfl)]; rfl
theorem x16_6 {d : Nat} {Q : av_R → av_H → Prop} {L : av_L} {S : List Value} {A : av_H} {v0 v1 v2 : Value}  : av_g d 16 Q 6 L (v2 :: v1 :: v0 :: S) A = if S.length ≤ 12 then av_W d 93 [v0, v1, v2] A (fun o A' => match o with | .inl v => av_g d 16 Q 9 L (v.toList ++ S) A' | .inr q => av_T d 16 6 L q A' Q) else False := by
  rw [av_g_iff (xf16 6 (.invokestatic 5) rfl)]; exact av_ifand rfl
theorem x16_9 {d : Nat} {Q : av_R → av_H → Prop} {L : av_L} {S : List Value} {A : av_H} {a : Int32} : av_g d 16 Q 9 L (.int a :: S) A = if a = 0 then av_g d 16 Q 12 L S A else av_g d 16 Q 14 L S A := by
  rw [av_g_iff (xf16 9 (.ifCond .ne 5) rfl)]; exact av_ifne a 0 _ _
theorem x16_12 {d : Nat} {Q : av_R → av_H → Prop} {L : av_L} {S : List Value} {A : av_H} : av_g d 16 Q 12 L S A = av_g d 16 Q 13 L (.int (-1) :: S) A := by
  rw [av_g_iff (xf16 12 (.iconst (-1)) rfl)]; rfl
theorem x16_13 {d : Nat} {Q : av_R → av_H → Prop} {L : av_L} {S : List Value} {A : av_H} {v : Int32} : av_g d 16 Q 13 L [.int v] A = Q (.inl (some (.int v))) A := by
  rw [av_g_iff (xf16 13 .ireturn rfl)]; rfl
theorem x16_14 {d : Nat} {Q : av_R → av_H → Prop} {L : av_L} {S : List Value} {A : av_H} : av_g d 16 Q 14 L S A = match av_lget L 0 with | some (.ref v) => av_g d 16 Q 15 L (.ref v :: S) A | some .null => av_g d 16 Q 15 L (.null :: S) A | _ => False := by
  rw [av_g_iff (xf16 14 (.aload_n 0) rfl)]; rfl
theorem x16_15 {d : Nat} {Q : av_R → av_H → Prop} {L : av_L} {S : List Value} {A : av_H} {a : Nat} : av_g d 16 Q 15 L (.ref a :: S) A = match A.2.2 a with | some (.inl (k, g)) => (match av_fi 24 k with | some i => av_g d 16 Q 18 L (g i :: S) A | none => False) | _ => False := by
  rw [av_g_iff (xf16 15 (.getfield 39) rfl)]; exact av_getm rfl
theorem x16_18 {d : Nat} {Q : av_R → av_H → Prop} {L : av_L} {S : List Value} {A : av_H} : av_g d 16 Q 18 L S A = av_g d 16 Q 21 L (.int (160) :: S) A := by
  rw [av_g_iff (xf16 18 (.sipush 160) rfl)]; rfl
theorem x16_21 {d : Nat} {Q : av_R → av_H → Prop} {L : av_L} {S : List Value} {A : av_H} {a b : Int32} : av_g d 16 Q 21 L (.int b :: .int a :: S) A = if a = b then av_g d 16 Q 24 L S A else av_g d 16 Q 27 L S A := by
  rw [av_g_iff (xf16 21 (.if_icmp .ne 6) rfl)]; exact av_ifne a b _ _
theorem x16_24 {d : Nat} {Q : av_R → av_H → Prop} {L : av_L} {S : List Value} {A : av_H} : av_g d 16 Q 24 L S A = av_g d 16 Q 26 L (.int (-3) :: S) A := by
  rw [av_g_iff (xf16 24 (.bipush (-3)) rfl)]; rfl
theorem x16_26 {d : Nat} {Q : av_R → av_H → Prop} {L : av_L} {S : List Value} {A : av_H} {v : Int32} : av_g d 16 Q 26 L [.int v] A = Q (.inl (some (.int v))) A := by
  rw [av_g_iff (xf16 26 .ireturn rfl)]; rfl
theorem x16_27 {d : Nat} {Q : av_R → av_H → Prop} {L : av_L} {S : List Value} {A : av_H} : av_g d 16 Q 27 L S A = match av_lget L 0 with | some (.ref v) => av_g d 16 Q 28 L (.ref v :: S) A | some .null => av_g d 16 Q 28 L (.null :: S) A | _ => False := by
  rw [av_g_iff (xf16 27 (.aload_n 0) rfl)]; rfl
theorem x16_28 {d : Nat} {Q : av_R → av_H → Prop} {L : av_L} {S : List Value} {A : av_H} {a : Nat} : av_g d 16 Q 28 L (.ref a :: S) A = match A.2.2 a with | some (.inl (k, g)) => (match av_fi 36 k with | some i => av_g d 16 Q 31 L (g i :: S) A | none => False) | _ => False := by
  rw [av_g_iff (xf16 28 (.getfield 43) rfl)]; exact av_getm rfl
theorem x16_31 {d : Nat} {Q : av_R → av_H → Prop} {L : av_L} {S : List Value} {A : av_H} : av_g d 16 Q 31 L S A = match av_lget L 0 with | some (.ref v) => av_g d 16 Q 32 L (.ref v :: S) A | some .null => av_g d 16 Q 32 L (.null :: S) A | _ => False := by
  rw [av_g_iff (xf16 31 (.aload_n 0) rfl)]; rfl
theorem x16_32 {d : Nat} {Q : av_R → av_H → Prop} {L : av_L} {S : List Value} {A : av_H} {u : Value} : av_g d 16 Q 32 L (u :: S) A = if u.category = 1 then av_g d 16 Q 33 L (u :: u :: S) A else False := by
  rw [av_g_iff (xf16 32 .dup rfl)]; rfl
theorem x16_33 {d : Nat} {Q : av_R → av_H → Prop} {L : av_L} {S : List Value} {A : av_H} {a : Nat} : av_g d 16 Q 33 L (.ref a :: S) A = match A.2.2 a with | some (.inl (k, g)) => (match av_fi 24 k with | some i => av_g d 16 Q 36 L (g i :: S) A | none => False) | _ => False := by
  rw [av_g_iff (xf16 33 (.getfield 39) rfl)]; exact av_getm rfl
theorem x16_36 {d : Nat} {Q : av_R → av_H → Prop} {L : av_L} {S : List Value} {A : av_H} {u v : Value} : av_g d 16 Q 36 L (u :: v :: S) A = if u.category = 1 ∧ v.category = 1 then av_g d 16 Q 37 L (u :: v :: u :: S) A else False := by
  rw [av_g_iff (xf16 36 .dup_x1 rfl)]; rfl
theorem x16_37 {d : Nat} {Q : av_R → av_H → Prop} {L : av_L} {S : List Value} {A : av_H} : av_g d 16 Q 37 L S A = av_g d 16 Q 38 L (.int (1) :: S) A := by
  rw [av_g_iff (xf16 37 (.iconst 1) rfl)]; rfl
theorem x16_38 {d : Nat} {Q : av_R → av_H → Prop} {L : av_L} {S : List Value} {A : av_H} {a b : Int32} : av_g d 16 Q 38 L (.int b :: .int a :: S) A = av_g d 16 Q 39 L (.int (a + b) :: S) A := by
  rw [av_g_iff (xf16 38 .iadd rfl)]; rfl
theorem x16_39 {d : Nat} {Q : av_R → av_H → Prop} {L : av_L} {S : List Value} {A : av_H} {a : Nat} {v : Value} : av_g d 16 Q 39 L (v :: .ref a :: S) A = match A.2.2 a with | some (.inl (k, g)) => (match av_fi 24 k with | some i => if av_K ≤ a ∧ av_ok (av_ft k i) v = true then av_g d 16 Q 42 L S (av_set A a (.inl (k, fun j => if j = i then v else g j))) else False | none => False) | _ => False := by
  rw [av_g_iff (xf16 39 (.putfield 39) rfl)]; exact av_putm rfl (by decide)
theorem x16_42 {d : Nat} {Q : av_R → av_H → Prop} {L : av_L} {S : List Value} {A : av_H} : av_g d 16 Q 42 L S A = match av_lget L 1 with | some (.int v) => av_g d 16 Q 43 L (.int v :: S) A | _ => False := by
  rw [av_g_iff (xf16 42 (.iload_n 1) rfl)]; rfl
theorem x16_43 {d : Nat} {Q : av_R → av_H → Prop} {L : av_L} {S : List Value} {A : av_H} {a : Int32} : av_g d 16 Q 43 L (.int a :: S) A = av_g d 16 Q 44 L (.int a.toInt8.toInt32 :: S) A := by
  rw [av_g_iff (xf16 43 .i2b rfl)]; rfl
theorem x16_44 {d : Nat} {Q : av_R → av_H → Prop} {L : av_L} {S : List Value} {A : av_H} {a : Nat} {i v : Int32} : av_g d 16 Q 44 L (.int v :: .int i :: .ref a :: S) A = match A.2.2 a with | some (.inr (t, n, f)) => if t = 1 ∧ av_in i n = true ∧ av_K ≤ a then av_g d 16 Q 45 L S (av_set A a (.inr (t, n, fun j => if j = i.toNatClampNeg then .int v.toInt8.toInt32 else f j))) else False | _ => False := by
  rw [av_g_iff (xf16 44 .bastore rfl)]; rfl
theorem x16_45 {d : Nat} {Q : av_R → av_H → Prop} {L : av_L} {S : List Value} {A : av_H} : av_g d 16 Q 45 L S A = match av_lget L 0 with | some (.ref v) => av_g d 16 Q 46 L (.ref v :: S) A | some .null => av_g d 16 Q 46 L (.null :: S) A | _ => False := by
  rw [av_g_iff (xf16 45 (.aload_n 0) rfl)]; rfl
theorem x16_46 {d : Nat} {Q : av_R → av_H → Prop} {L : av_L} {S : List Value} {A : av_H} {a : Nat} : av_g d 16 Q 46 L (.ref a :: S) A = match A.2.2 a with | some (.inl (k, g)) => (match av_fi 24 k with | some i => av_g d 16 Q 49 L (g i :: S) A | none => False) | _ => False := by
  rw [av_g_iff (xf16 46 (.getfield 39) rfl)]; exact av_getm rfl
theorem x16_49 {d : Nat} {Q : av_R → av_H → Prop} {L : av_L} {S : List Value} {A : av_H} {v : Int32} : av_g d 16 Q 49 L [.int v] A = Q (.inl (some (.int v))) A := by
  rw [av_g_iff (xf16 49 .ireturn rfl)]; rfl
/-- StockEvents.find(II)I -/
theorem xf17 (pc : Nat) (i : Instr) (h : (av_look av_b17 pc).map Prod.fst = some i) : av_fetch 17 pc = some i := h
theorem x17_0 {d : Nat} {Q : av_R → av_H → Prop} {L : av_L} {S : List Value} {A : av_H} : av_g d 17 Q 0 L S A = match av_lget L 1 with | some (.int v) => av_g d 17 Q 1 L (.int v :: S) A | _ => False := by
  rw [av_g_iff (xf17 0 (.iload_n 1) rfl)]; rfl
theorem x17_1 {d : Nat} {Q : av_R → av_H → Prop} {L : av_L} {S : List Value} {A : av_H} {v0 : Value}  : av_g d 17 Q 1 L (v0 :: S) A = if S.length ≤ 12 then av_W d 32 [v0] A (fun o A' => match o with | .inl v => av_g d 17 Q 4 L (v.toList ++ S) A' | .inr q => av_T d 17 1 L q A' Q) else False := by
  rw [av_g_iff (xf17 1 (.invokestatic 241) rfl)]; exact av_ifand rfl
theorem x17_4 {d : Nat} {Q : av_R → av_H → Prop} {L : av_L} {S : List Value} {A : av_H} {a : Int32} : av_g d 17 Q 4 L (.int a :: S) A = if a = 0 then av_g d 17 Q 23 L S A else av_g d 17 Q 7 L S A := by
  rw [av_g_iff (xf17 4 (.ifCond .eq 19) rfl)]; exact av_ifeq a 0 _ _
theorem x17_7 {d : Nat} {Q : av_R → av_H → Prop} {L : av_L} {S : List Value} {A : av_H} : av_g d 17 Q 7 L S A = match av_lget L 2 with | some (.int v) => av_g d 17 Q 8 L (.int v :: S) A | _ => False := by
  rw [av_g_iff (xf17 7 (.iload_n 2) rfl)]; rfl
theorem x17_8 {d : Nat} {Q : av_R → av_H → Prop} {L : av_L} {S : List Value} {A : av_H} {a : Int32} : av_g d 17 Q 8 L (.int a :: S) A = av_g d 17 Q 9 L (.long a.toInt64 :: S) A := by
  rw [av_g_iff (xf17 8 .i2l rfl)]; rfl
theorem x17_9 {d : Nat} {Q : av_R → av_H → Prop} {L : av_L} {S : List Value} {A : av_H} : av_g d 17 Q 9 L S A = av_g d 17 Q 10 L (.long 1 :: S) A := by
  rw [av_g_iff (xf17 9 (.lconst 1) rfl)]; rfl
theorem x17_10 {d : Nat} {Q : av_R → av_H → Prop} {L : av_L} {S : List Value} {A : av_H} : av_g d 17 Q 10 L S A = match av_lget L 0 with | some (.ref v) => av_g d 17 Q 11 L (.ref v :: S) A | some .null => av_g d 17 Q 11 L (.null :: S) A | _ => False := by
  rw [av_g_iff (xf17 10 (.aload_n 0) rfl)]; rfl
theorem x17_11 {d : Nat} {Q : av_R → av_H → Prop} {L : av_L} {S : List Value} {A : av_H} {a : Nat} : av_g d 17 Q 11 L (.ref a :: S) A = match A.2.2 a with | some (.inl (k, g)) => (match av_fi 1 k with | some i => av_g d 17 Q 14 L (g i :: S) A | none => False) | _ => False := by
  rw [av_g_iff (xf17 11 (.getfield 140) rfl)]; exact av_getm rfl
theorem x17_14 {d : Nat} {Q : av_R → av_H → Prop} {L : av_L} {S : List Value} {A : av_H} : av_g d 17 Q 14 L S A = match av_lget L 1 with | some (.int v) => av_g d 17 Q 15 L (.int v :: S) A | _ => False := by
  rw [av_g_iff (xf17 14 (.iload_n 1) rfl)]; rfl
theorem x17_15 {d : Nat} {Q : av_R → av_H → Prop} {L : av_L} {S : List Value} {A : av_H} {a : Nat} {i : Int32} : av_g d 17 Q 15 L (.int i :: .ref a :: S) A = match A.2.2 a with | some (.inr (t, n, f)) => if t = 0 ∧ av_in i n = true then av_g d 17 Q 16 L (f i.toNatClampNeg :: S) A else False | _ => False := by
  rw [av_g_iff (xf17 15 .iaload rfl)]; rfl
theorem x17_16 {d : Nat} {Q : av_R → av_H → Prop} {L : av_L} {S : List Value} {A : av_H} {a : Int32} : av_g d 17 Q 16 L (.int a :: S) A = av_g d 17 Q 17 L (.long a.toInt64 :: S) A := by
  rw [av_g_iff (xf17 16 .i2l rfl)]; rfl
theorem x17_17 {d : Nat} {Q : av_R → av_H → Prop} {L : av_L} {S : List Value} {A : av_H} {v0 v1 v2 : Value}  : av_g d 17 Q 17 L (v2 :: v1 :: v0 :: S) A = if S.length ≤ 12 then av_W d 93 [v0, v1, v2] A (fun o A' => match o with | .inl v => av_g d 17 Q 20 L (v.toList ++ S) A' | .inr q => av_T d 17 17 L q A' Q) else False := by
  rw [av_g_iff (xf17 17 (.invokestatic 5) rfl)]; exact av_ifand rfl
theorem x17_20 {d : Nat} {Q : av_R → av_H → Prop} {L : av_L} {S : List Value} {A : av_H} {a : Int32} : av_g d 17 Q 20 L (.int a :: S) A = if a = 0 then av_g d 17 Q 23 L S A else av_g d 17 Q 25 L S A := by
  rw [av_g_iff (xf17 20 (.ifCond .ne 5) rfl)]; exact av_ifne a 0 _ _
theorem x17_23 {d : Nat} {Q : av_R → av_H → Prop} {L : av_L} {S : List Value} {A : av_H} : av_g d 17 Q 23 L S A = av_g d 17 Q 24 L (.int (-1) :: S) A := by
  rw [av_g_iff (xf17 23 (.iconst (-1)) rfl)]; rfl
theorem x17_24 {d : Nat} {Q : av_R → av_H → Prop} {L : av_L} {S : List Value} {A : av_H} {v : Int32} : av_g d 17 Q 24 L [.int v] A = Q (.inl (some (.int v))) A := by
  rw [av_g_iff (xf17 24 .ireturn rfl)]; rfl
theorem x17_25 {d : Nat} {Q : av_R → av_H → Prop} {L : av_L} {S : List Value} {A : av_H} : av_g d 17 Q 25 L S A = match av_lget L 0 with | some (.ref v) => av_g d 17 Q 26 L (.ref v :: S) A | some .null => av_g d 17 Q 26 L (.null :: S) A | _ => False := by
  rw [av_g_iff (xf17 25 (.aload_n 0) rfl)]; rfl
theorem x17_26 {d : Nat} {Q : av_R → av_H → Prop} {L : av_L} {S : List Value} {A : av_H} : av_g d 17 Q 26 L S A = match av_lget L 1 with | some (.int v) => av_g d 17 Q 27 L (.int v :: S) A | _ => False := by
  rw [av_g_iff (xf17 26 (.iload_n 1) rfl)]; rfl
theorem x17_27 {d : Nat} {Q : av_R → av_H → Prop} {L : av_L} {S : List Value} {A : av_H} : av_g d 17 Q 27 L S A = match av_lget L 2 with | some (.int v) => av_g d 17 Q 28 L (.int v :: S) A | _ => False := by
  rw [av_g_iff (xf17 27 (.iload_n 2) rfl)]; rfl
theorem x17_28 {d : Nat} {Q : av_R → av_H → Prop} {L : av_L} {S : List Value} {A : av_H} {v0 v1 : Value} {b : Nat} : av_g d 17 Q 28 L (v1 :: v0 :: .ref b :: S) A = match A.2.2 b with | some (.inl (k, _)) => (match av_sel 74 k with | some z' => if S.length ≤ 12 then av_W d z' (.ref b :: [v0, v1]) A (fun o A' => match o with | .inl v => av_g d 17 Q 31 L (v.toList ++ S) A' | .inr q => av_T d 17 28 L q A' Q) else False | none => False) | _ => False := by
  rw [av_g_iff (xf17 28 (.invokevirtual 386) rfl)]; exact av_ivm (z := 74) (as := [v0, v1]) rfl rfl (by decide)
theorem x17_31 {d : Nat} {Q : av_R → av_H → Prop} {L : av_L} {S : List Value} {A : av_H} {v : Int32} : av_g d 17 Q 31 L [.int v] A = Q (.inl (some (.int v))) A := by
  rw [av_g_iff (xf17 31 .ireturn rfl)]; rfl
/-- StockEvents.within(JJJ)Z -/
theorem xf93 (pc : Nat) (i : Instr) (h : (av_look av_b93 pc).map Prod.fst = some i) : av_fetch 93 pc = some i := h
theorem x93_0 {d : Nat} {Q : av_R → av_H → Prop} {L : av_L} {S : List Value} {A : av_H} : av_g d 93 Q 0 L S A = match av_lget L 0 with | some (.long v) => av_g d 93 Q 1 L (.long v :: S) A | _ => False := by
  rw [av_g_iff (xf93 0 (.lload_n 0) rfl)]; rfl
theorem x93_1 {d : Nat} {Q : av_R → av_H → Prop} {L : av_L} {S : List Value} {A : av_H} : av_g d 93 Q 1 L S A = match av_lget L 2 with | some (.long v) => av_g d 93 Q 2 L (.long v :: S) A | _ => False := by
  rw [av_g_iff (xf93 1 (.lload_n 2) rfl)]; rfl
theorem x93_2 {d : Nat} {Q : av_R → av_H → Prop} {L : av_L} {S : List Value} {A : av_H} {a b : Int64} : av_g d 93 Q 2 L (.long b :: .long a :: S) A = av_g d 93 Q 3 L (.int (lg_cmp a b) :: S) A := by
  rw [av_g_iff (xf93 2 .lcmp rfl)]; rfl
theorem x93_3 {d : Nat} {Q : av_R → av_H → Prop} {L : av_L} {S : List Value} {A : av_H} {a : Int32} : av_g d 93 Q 3 L (.int a :: S) A = if a < 0 then av_g d 93 Q 17 L S A else av_g d 93 Q 6 L S A := by
  rw [av_g_iff (xf93 3 (.ifCond .lt 14) rfl)]; exact av_iflt a 0 _ _
theorem x93_6 {d : Nat} {Q : av_R → av_H → Prop} {L : av_L} {S : List Value} {A : av_H} : av_g d 93 Q 6 L S A = match av_lget L 0 with | some (.long v) => av_g d 93 Q 7 L (.long v :: S) A | _ => False := by
  rw [av_g_iff (xf93 6 (.lload_n 0) rfl)]; rfl
theorem x93_7 {d : Nat} {Q : av_R → av_H → Prop} {L : av_L} {S : List Value} {A : av_H} : av_g d 93 Q 7 L S A = match av_lget L 4 with | some (.long v) => av_g d 93 Q 9 L (.long v :: S) A | _ => False := by
  rw [av_g_iff (xf93 7 (.lload 4) rfl)]; rfl
theorem x93_9 {d : Nat} {Q : av_R → av_H → Prop} {L : av_L} {S : List Value} {A : av_H} {a b : Int64} : av_g d 93 Q 9 L (.long b :: .long a :: S) A = av_g d 93 Q 10 L (.int (lg_cmp a b) :: S) A := by
  rw [av_g_iff (xf93 9 .lcmp rfl)]; rfl
theorem x93_10 {d : Nat} {Q : av_R → av_H → Prop} {L : av_L} {S : List Value} {A : av_H} {a : Int32} : av_g d 93 Q 10 L (.int a :: S) A = if 0 < a then av_g d 93 Q 17 L S A else av_g d 93 Q 13 L S A := by
  rw [av_g_iff (xf93 10 (.ifCond .gt 7) rfl)]; exact av_ifgt a 0 _ _
theorem x93_13 {d : Nat} {Q : av_R → av_H → Prop} {L : av_L} {S : List Value} {A : av_H} : av_g d 93 Q 13 L S A = av_g d 93 Q 14 L (.int (1) :: S) A := by
  rw [av_g_iff (xf93 13 (.iconst 1) rfl)]; rfl
theorem x93_14 {d : Nat} {Q : av_R → av_H → Prop} {L : av_L} {S : List Value} {A : av_H} : av_g d 93 Q 14 L S A = av_g d 93 Q 18 L S A := by
  rw [av_g_iff (xf93 14 (.goto 4) rfl)]; rfl
theorem x93_17 {d : Nat} {Q : av_R → av_H → Prop} {L : av_L} {S : List Value} {A : av_H} : av_g d 93 Q 17 L S A = av_g d 93 Q 18 L (.int (0) :: S) A := by
  rw [av_g_iff (xf93 17 (.iconst 0) rfl)]; rfl
theorem x93_18 {d : Nat} {Q : av_R → av_H → Prop} {L : av_L} {S : List Value} {A : av_H} {v : Int32} : av_g d 93 Q 18 L [.int v] A = if av_ok 2 (.int v) = true then Q (.inl (some (.int v))) A else False := by
  rw [av_g_iff (xf93 18 .ireturn rfl)]; rfl

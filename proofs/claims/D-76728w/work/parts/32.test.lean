/-! ===== TEST ===== -/
theorem cat_l (v : Int64) : (Value.long v).category = 2 := rfl
theorem cat_i (v : Int32) : (Value.int v).category = 1 := rfl
theorem cat_r (v : Nat) : (Value.ref v).category = 1 := rfl
theorem cat_n : (Value.null).category = 1 := rfl
theorem av_bl2 (b : Bool) : av_ok 2 (.int (if b = true then 1 else 0)) = true := by cases b <;> rfl
theorem lg_cmp_neg (a b : Int64) : (lg_cmp a b < 0) = (a < b) := by
  unfold lg_cmp
  by_cases h : a < b
  · simp [h]
  · by_cases h2 : a = b
    · subst h2; simp
    · simp [h, h2]
theorem tst_within {d : Nat} {Q : av_R → av_H → Prop} {A : av_H} (v a b : Int64) (h1 : a ≤ v) (h2 : v ≤ b) (h : Q (.inl (some (.int 1))) A) : av_W (d + 1) 93 [.long v, .long a, .long b] A Q := by
  refine av_w_of (by decide) (Nat.le_of_ble_eq_true rfl) ?_
  simp only [av_ent, cat_l, if_true, Nat.zero_add, Nat.reduceAdd, x93_0, x93_1, x93_2, x93_3, x93_6, x93_7, x93_9, x93_10, x93_13, x93_14, x93_17, x93_18, av_lget, Nat.reduceEqDiff, if_false, OfNat.ofNat_ne_ofNat, OfNat.ofNat_ne_zero]
  trace_state
  exact test_stop

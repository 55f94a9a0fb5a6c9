/-! ===== the lambdas' classes: the file that is written for a site, and the walk of its one method ===== -/
set_option maxRecDepth 100000
def lm_D (j : Nat) : ClassFile := ((av_sh j).2.2.2.file (av_sh j).1.cls).getD { minorVersion := 0, majorVersion := 0, constantPool := #[], accessFlags := 0, thisClass := 0, superClass := 0, interfaces := #[], fields := #[], methods := #[], attributes := #[] }
def lm_F (j : Nat) : Method := ((layoutMethods (lm_D j)).bind (·[1]?)).getD default
def lm_Y (j : Nat) : Array Field × Array FieldType × Array FieldType := (layoutFields (lm_D j) 0).getD (#[], #[], #[])
def lm_B (j : Nat) : ByteArray := ((lm_F j).code.map fun c => c.code).getD ⟨#[]⟩
def lm_ml (j : Nat) : Nat := ((lm_F j).code.map fun c => c.maxLocals).getD 99
/-- the field that a Fieldref of the file names -/
def lm_fi (j ix : Nat) : Option Nat := match (lm_D j).constantPool[ix]? with
  | some (.fieldref _ nt) => match (lm_D j).constantPool.nameAndType? nt with
    | some (nm, _) => match (lm_Y j).1.findIdx? (·.name == nm) with
      | some i => match (lm_Y j).1[i]? with
        | some f => if f.isStatic = false ∧ f.slot = i then some i else none
        | none => none
      | none => none
    | none => none
  | _ => none
/-- is that entry the class of that name? -/
def lm_cl (j ix : Nat) (name : String) : Bool := match (lm_D j).constantPool[ix]? with
  | some (.class_ n) => decide ((lm_D j).constantPool.string? n = some name) && decide (ix ≠ (lm_D j).thisClass)
  | _ => false
/-- is that entry the Methodref of the target? -/
def lm_me (j ix : Nat) : Bool := match (lm_D j).constantPool[ix]? with
  | some (.methodref ci nt) => lm_cl j ci (av_sh j).2.2.2.implClass && decide ((lm_D j).constantPool.nameAndType? nt = some ((av_sh j).2.2.2.implName, (av_sh j).2.2.2.implDesc.toString))
  | _ => false
/-- the operands at the call, last first: 1 + i: what was captured; 1000 + i: an argument -/
def lm_ex (j : Nat) : List Nat := ((List.range (av_lt j).length).map (· + 1) ++ (List.range (av_la j).length).map (· + 1000)).reverse
def lm_ret (j pc : Nat) : Bool := match decode (lm_B j) pc, (av_sh j).2.2.2.sam.returnType with
  | .ok (.ireturn, 1), some .int => av_rt (av_ly j) == 1
  | .ok (.ireturn, 1), some .boolean => av_rt (av_ly j) == 2
  | .ok (.areturn, 1), some (.object _) => av_rt (av_ly j) == 6
  | .ok (.return_, 1), none => av_rt (av_ly j) == 0
  | _, _ => false
def lm_go (j : Nat) : Nat → Nat → List Nat → Bool
  | 0 => fun _ _ => false
  | f + 1 => fun pc S => match decode (lm_B j) pc with
    | .ok (.aload_n k, 1) => if (k : Nat) = 0 then lm_go j f (pc + 1) (0 :: S) else decide ((av_la j)[(k : Nat) - 1]? = some 6) && lm_go j f (pc + 1) (((k : Nat) + 999) :: S)
    | .ok (.iload_n k, 1) => decide (1 ≤ (k : Nat)) && decide ((av_la j)[(k : Nat) - 1]? = some 1) && lm_go j f (pc + 1) (((k : Nat) + 999) :: S)
    | .ok (.getfield ix, 3) => (match S with
      | 0 :: S => (match lm_fi j ix with
        | some i => decide (i < (av_lt j).length) && lm_go j f (pc + 3) ((i + 1) :: S)
        | none => false)
      | _ => false)
    | .ok (.checkcast ix, 3) => (match S, av_lk j with
      | 1000 :: S, some k => decide (k < av_nK) && lm_cl j ix (av_cn k) && lm_go j f (pc + 3) (1000 :: S)
      | _, _ => false)
    | .ok (.invokestatic ix, 3) => (av_sh j).2.2.2.kind == 6 && lm_me j ix && decide (S = lm_ex j) && lm_ret j (pc + 3) && av_stt (av_ly j)
    | .ok (.invokevirtual ix, 3) => (av_sh j).2.2.2.kind == 5 && lm_me j ix && decide (S = lm_ex j) && lm_ret j (pc + 3) && decide ((av_lt j)[0]? = some 6) && av_lr j
    | _ => false
def lm_ck (j : Nat) : Bool := ((av_sh j).2.2.2.file (av_sh j).1.cls).isSome && (layoutFields (lm_D j) 0).isSome && ((layoutMethods (lm_D j)).bind (·[1]?)).isSome && (lm_F j).code.isSome &&
  decide ((lm_F j).accessFlags = 1) && decide ((lm_F j).sig = (av_sh j).2.2.2.sam) && decide (lm_ml j ≤ 24) && decide (1 + (av_la j).length ≤ lm_ml j) && plainName ((av_sh j).1.cls ++ "$$Lambda") && lm_go j 32 0 []
def lm_k0 (j : Nat) : Bool := decide (av_yn (av_ly j) = ⟨(av_sh j).2.2.2.implClass, (av_sh j).2.2.2.implName, (av_sh j).2.2.2.implDesc.toString⟩)
def lm_k1 (j : Nat) : Bool := decide (av_ly j < av_nY)
def lm_k2 (j : Nat) : Bool := decide (av_ly j ≠ 0)
def lm_k3 (j : Nat) : Bool := decide (av_ly j ≠ av_yR)
def lm_k4 (j : Nat) : Bool := decide ((av_sh j).2.2.2.implItf = false)
def lm_k5 (j : Nat) : Bool := decide ((av_sh j).2.2.2.implClass ≠ "java/lang/invoke/MethodHandle")
def lm_k6 (j : Nat) : Bool := decide ((av_sh j).2.2.2.implClass ≠ "java/lang/invoke/VarHandle")
def lm_k7 (j : Nat) : Bool := decide ((av_sh j).2.2.2.captured.length = (av_lt j).length)
def lm_k8 (j : Nat) : Bool := decide ((av_sh j).2.2.2.sam.parameters.length = (av_la j).length)
def lm_k9 (j : Nat) : Bool := decide (av_na (av_ly j) + (if (av_sh j).2.2.2.kind = 5 then 1 else 0) = (av_lt j).length + (av_la j).length)
def lm_k10 (j : Nat) : Bool := (av_sh j).2.2.2.captured.all (fun t => decide (av_tc t ≠ 5))
def lm_k11 (j : Nat) : Bool := decide ((av_sh j).2.2.2.captured.map av_tc = av_lt j)
def lm_k12 (j : Nat) : Bool := (av_la j).all (fun t => decide (t ≠ 5))
def lm_k13 (j : Nat) : Bool := decide ((lm_Y j).2.1.toList.map av_tc = av_lt j)
def lm_ck2 (j : Nat) : Bool := lm_k0 j && lm_k1 j && lm_k2 j && lm_k3 j && lm_k4 j && lm_k5 j && lm_k6 j && lm_k7 j && lm_k8 j && lm_k9 j && lm_k10 j && lm_k11 j && lm_k12 j && lm_k13 j
theorem lm_ok0 : lm_ck 0 = true := by decide +kernel
theorem lm_ok1 : lm_ck 1 = true := by decide +kernel
theorem lm_ok2 : lm_ck 2 = true := by decide +kernel
theorem lm_ok3 : lm_ck 3 = true := by decide +kernel
theorem lm_ok4 : lm_ck 4 = true := by decide +kernel
theorem lm_ok5 : lm_ck 5 = true := by decide +kernel
theorem lm_ok6 : lm_ck 6 = true := by decide +kernel
theorem lm_ok7 : lm_ck 7 = true := by decide +kernel
theorem lm_ok8 : lm_ck 8 = true := by decide +kernel
theorem lm_ok9 : lm_ck 9 = true := by decide +kernel
theorem lm_ok10 : lm_ck 10 = true := by decide +kernel
theorem lm_ok11 : lm_ck 11 = true := by decide +kernel
theorem lm_ok12 : lm_ck 12 = true := by decide +kernel
theorem lm_ok13 : lm_ck 13 = true := by decide +kernel
theorem lm_ok14 : lm_ck 14 = true := by decide +kernel
theorem lm_ok15 : lm_ck 15 = true := by decide +kernel
theorem lm_ok16 : lm_ck 16 = true := by decide +kernel
theorem lm_ok17 : lm_ck 17 = true := by decide +kernel
theorem lm_ok18 : lm_ck 18 = true := by decide +kernel
theorem lm_ok19 : lm_ck 19 = true := by decide +kernel
theorem lm_ok20 : lm_ck 20 = true := by decide +kernel
theorem lm_ok21 : lm_ck 21 = true := by decide +kernel
theorem lm_ok22 : lm_ck 22 = true := by decide +kernel
theorem lm_ok23 : lm_ck 23 = true := by decide +kernel
theorem lm_ok24 : lm_ck 24 = true := by decide +kernel
theorem lm_ok25 : lm_ck 25 = true := by decide +kernel
theorem lm_ok26 : lm_ck 26 = true := by decide +kernel
theorem lm_ok27 : lm_ck 27 = true := by decide +kernel
theorem lm_ok28 : lm_ck 28 = true := by decide +kernel
theorem lm_ok29 : lm_ck 29 = true := by decide +kernel
theorem lm_ok30 : lm_ck 30 = true := by decide +kernel
theorem lm_ok31 : lm_ck 31 = true := by decide +kernel
theorem lm_ok32 : lm_ck 32 = true := by decide +kernel
theorem lm_ok33 : lm_ck 33 = true := by decide +kernel
theorem lm_ok34 : lm_ck 34 = true := by decide +kernel
theorem lm_ok35 : lm_ck 35 = true := by decide +kernel
theorem lm_ok36 : lm_ck 36 = true := by decide +kernel
theorem lm_ok37 : lm_ck 37 = true := by decide +kernel
theorem lm_ok38 : lm_ck 38 = true := by decide +kernel
theorem lm_ok39 : lm_ck 39 = true := by decide +kernel
theorem lm_ok40 : lm_ck 40 = true := by decide +kernel
theorem lm_ok41 : lm_ck 41 = true := by decide +kernel
theorem lm_ok42 : lm_ck 42 = true := by decide +kernel
theorem lm_ok43 : lm_ck 43 = true := by decide +kernel
theorem lm_ok : ∀ j, j < av_nJ → lm_ck j = true := by
  intro j hj
  have hj : j < 44 := hj
  match j, hj with
  | 0, _ => exact lm_ok0
  | 1, _ => exact lm_ok1
  | 2, _ => exact lm_ok2
  | 3, _ => exact lm_ok3
  | 4, _ => exact lm_ok4
  | 5, _ => exact lm_ok5
  | 6, _ => exact lm_ok6
  | 7, _ => exact lm_ok7
  | 8, _ => exact lm_ok8
  | 9, _ => exact lm_ok9
  | 10, _ => exact lm_ok10
  | 11, _ => exact lm_ok11
  | 12, _ => exact lm_ok12
  | 13, _ => exact lm_ok13
  | 14, _ => exact lm_ok14
  | 15, _ => exact lm_ok15
  | 16, _ => exact lm_ok16
  | 17, _ => exact lm_ok17
  | 18, _ => exact lm_ok18
  | 19, _ => exact lm_ok19
  | 20, _ => exact lm_ok20
  | 21, _ => exact lm_ok21
  | 22, _ => exact lm_ok22
  | 23, _ => exact lm_ok23
  | 24, _ => exact lm_ok24
  | 25, _ => exact lm_ok25
  | 26, _ => exact lm_ok26
  | 27, _ => exact lm_ok27
  | 28, _ => exact lm_ok28
  | 29, _ => exact lm_ok29
  | 30, _ => exact lm_ok30
  | 31, _ => exact lm_ok31
  | 32, _ => exact lm_ok32
  | 33, _ => exact lm_ok33
  | 34, _ => exact lm_ok34
  | 35, _ => exact lm_ok35
  | 36, _ => exact lm_ok36
  | 37, _ => exact lm_ok37
  | 38, _ => exact lm_ok38
  | 39, _ => exact lm_ok39
  | 40, _ => exact lm_ok40
  | 41, _ => exact lm_ok41
  | 42, _ => exact lm_ok42
  | 43, _ => exact lm_ok43
  | k + 44, h => exact absurd h (by omega)
theorem lm_okB0 : (List.range 44).all lm_k0 = true := by decide +kernel
theorem lm_okB1 : (List.range 44).all lm_k1 = true := by decide +kernel
theorem lm_okB2 : (List.range 44).all lm_k2 = true := by decide +kernel
theorem lm_okB3 : (List.range 44).all lm_k3 = true := by decide +kernel
theorem lm_okB4 : (List.range 44).all lm_k4 = true := by decide +kernel
theorem lm_okB5 : (List.range 44).all lm_k5 = true := by decide +kernel
theorem lm_okB6 : (List.range 44).all lm_k6 = true := by decide +kernel
theorem lm_okB7 : (List.range 44).all lm_k7 = true := by decide +kernel
theorem lm_okB8 : (List.range 44).all lm_k8 = true := by decide +kernel
theorem lm_okB9 : (List.range 44).all lm_k9 = true := by decide +kernel
theorem lm_okB10 : (List.range 44).all lm_k10 = true := by decide +kernel
theorem lm_okB11 : (List.range 44).all lm_k11 = true := by decide +kernel
theorem lm_okB12 : (List.range 44).all lm_k12 = true := by decide +kernel
theorem lm_t0 : lm_k13 0 = true := by decide +kernel
theorem lm_t1 : lm_k13 1 = true := by decide +kernel
theorem lm_t2 : lm_k13 2 = true := by decide +kernel
theorem lm_t3 : lm_k13 3 = true := by decide +kernel
theorem lm_t4 : lm_k13 4 = true := by decide +kernel
theorem lm_t5 : lm_k13 5 = true := by decide +kernel
theorem lm_t6 : lm_k13 6 = true := by decide +kernel
theorem lm_t7 : lm_k13 7 = true := by decide +kernel
theorem lm_t8 : lm_k13 8 = true := by decide +kernel
theorem lm_t9 : lm_k13 9 = true := by decide +kernel
theorem lm_t10 : lm_k13 10 = true := by decide +kernel
theorem lm_t11 : lm_k13 11 = true := by decide +kernel
theorem lm_t12 : lm_k13 12 = true := by decide +kernel
theorem lm_t13 : lm_k13 13 = true := by decide +kernel
theorem lm_t14 : lm_k13 14 = true := by decide +kernel
theorem lm_t15 : lm_k13 15 = true := by decide +kernel
theorem lm_t16 : lm_k13 16 = true := by decide +kernel
theorem lm_t17 : lm_k13 17 = true := by decide +kernel
theorem lm_t18 : lm_k13 18 = true := by decide +kernel
theorem lm_t19 : lm_k13 19 = true := by decide +kernel
theorem lm_t20 : lm_k13 20 = true := by decide +kernel
theorem lm_t21 : lm_k13 21 = true := by decide +kernel
theorem lm_t22 : lm_k13 22 = true := by decide +kernel
theorem lm_t23 : lm_k13 23 = true := by decide +kernel
theorem lm_t24 : lm_k13 24 = true := by decide +kernel
theorem lm_t25 : lm_k13 25 = true := by decide +kernel
theorem lm_t26 : lm_k13 26 = true := by decide +kernel
theorem lm_t27 : lm_k13 27 = true := by decide +kernel
theorem lm_t28 : lm_k13 28 = true := by decide +kernel
theorem lm_t29 : lm_k13 29 = true := by decide +kernel
theorem lm_t30 : lm_k13 30 = true := by decide +kernel
theorem lm_t31 : lm_k13 31 = true := by decide +kernel
theorem lm_t32 : lm_k13 32 = true := by decide +kernel
theorem lm_t33 : lm_k13 33 = true := by decide +kernel
theorem lm_t34 : lm_k13 34 = true := by decide +kernel
theorem lm_t35 : lm_k13 35 = true := by decide +kernel
theorem lm_t36 : lm_k13 36 = true := by decide +kernel
theorem lm_t37 : lm_k13 37 = true := by decide +kernel
theorem lm_t38 : lm_k13 38 = true := by decide +kernel
theorem lm_t39 : lm_k13 39 = true := by decide +kernel
theorem lm_t40 : lm_k13 40 = true := by decide +kernel
theorem lm_t41 : lm_k13 41 = true := by decide +kernel
theorem lm_t42 : lm_k13 42 = true := by decide +kernel
theorem lm_t43 : lm_k13 43 = true := by decide +kernel
theorem lm_okB13 : (List.range 44).all lm_k13 = true := by
  rw [List.all_eq_true]
  intro j hj
  have hj := List.mem_range.mp hj
  match j, hj with
  | 0, _ => exact lm_t0
  | 1, _ => exact lm_t1
  | 2, _ => exact lm_t2
  | 3, _ => exact lm_t3
  | 4, _ => exact lm_t4
  | 5, _ => exact lm_t5
  | 6, _ => exact lm_t6
  | 7, _ => exact lm_t7
  | 8, _ => exact lm_t8
  | 9, _ => exact lm_t9
  | 10, _ => exact lm_t10
  | 11, _ => exact lm_t11
  | 12, _ => exact lm_t12
  | 13, _ => exact lm_t13
  | 14, _ => exact lm_t14
  | 15, _ => exact lm_t15
  | 16, _ => exact lm_t16
  | 17, _ => exact lm_t17
  | 18, _ => exact lm_t18
  | 19, _ => exact lm_t19
  | 20, _ => exact lm_t20
  | 21, _ => exact lm_t21
  | 22, _ => exact lm_t22
  | 23, _ => exact lm_t23
  | 24, _ => exact lm_t24
  | 25, _ => exact lm_t25
  | 26, _ => exact lm_t26
  | 27, _ => exact lm_t27
  | 28, _ => exact lm_t28
  | 29, _ => exact lm_t29
  | 30, _ => exact lm_t30
  | 31, _ => exact lm_t31
  | 32, _ => exact lm_t32
  | 33, _ => exact lm_t33
  | 34, _ => exact lm_t34
  | 35, _ => exact lm_t35
  | 36, _ => exact lm_t36
  | 37, _ => exact lm_t37
  | 38, _ => exact lm_t38
  | 39, _ => exact lm_t39
  | 40, _ => exact lm_t40
  | 41, _ => exact lm_t41
  | 42, _ => exact lm_t42
  | 43, _ => exact lm_t43
  | k + 44, h => exact absurd h (by omega)
theorem lm_okB : (List.range 44).all lm_ck2 = true := by
  rw [List.all_eq_true]
  intro j hj
  unfold lm_ck2
  simp only [Bool.and_eq_true]
  exact ⟨⟨⟨⟨⟨⟨⟨⟨⟨⟨⟨⟨⟨List.all_eq_true.mp lm_okB0 j hj, List.all_eq_true.mp lm_okB1 j hj⟩, List.all_eq_true.mp lm_okB2 j hj⟩, List.all_eq_true.mp lm_okB3 j hj⟩, List.all_eq_true.mp lm_okB4 j hj⟩, List.all_eq_true.mp lm_okB5 j hj⟩, List.all_eq_true.mp lm_okB6 j hj⟩, List.all_eq_true.mp lm_okB7 j hj⟩, List.all_eq_true.mp lm_okB8 j hj⟩, List.all_eq_true.mp lm_okB9 j hj⟩, List.all_eq_true.mp lm_okB10 j hj⟩, List.all_eq_true.mp lm_okB11 j hj⟩, List.all_eq_true.mp lm_okB12 j hj⟩, List.all_eq_true.mp lm_okB13 j hj⟩

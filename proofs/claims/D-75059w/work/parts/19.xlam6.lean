/-! LAMBDAS (6): each of them called -/
set_option maxRecDepth 100000
theorem dXc_X1_lambda_closure_0 : yX1_lambda_closure_0.cls ≠ "java/lang/invoke/MethodHandle" ∧ yX1_lambda_closure_0.cls ≠ "java/lang/invoke/VarHandle" ∧ (parseMethodDescriptor yX1_lambda_closure_0.desc).map (fun d => d.parameters.length) = some 6 := by decide +kernel
theorem dXc_X1_lambda_closure_0V : yX1_lambda_closure_0.cls = RX1 ∧ yX1_lambda_closure_0.cls ≠ "java/lang/invoke/MethodHandle" ∧ yX1_lambda_closure_0.cls ≠ "java/lang/invoke/VarHandle" ∧ (parseMethodDescriptor yX1_lambda_closure_0.desc).map (fun d => d.parameters.length) = some 6 := ⟨rfl, dXc_X1_lambda_closure_0⟩
theorem dXc_X2_lambda_addWeekly_0 : yX2_lambda_addWeekly_0.cls ≠ "java/lang/invoke/MethodHandle" ∧ yX2_lambda_addWeekly_0.cls ≠ "java/lang/invoke/VarHandle" ∧ (parseMethodDescriptor yX2_lambda_addWeekly_0.desc).map (fun d => d.parameters.length) = some 6 := by decide +kernel
theorem dXc_X2_lambda_addWeekly_0V : yX2_lambda_addWeekly_0.cls = RX2 ∧ yX2_lambda_addWeekly_0.cls ≠ "java/lang/invoke/MethodHandle" ∧ yX2_lambda_addWeekly_0.cls ≠ "java/lang/invoke/VarHandle" ∧ (parseMethodDescriptor yX2_lambda_addWeekly_0.desc).map (fun d => d.parameters.length) = some 6 := ⟨rfl, dXc_X2_lambda_addWeekly_0⟩
theorem dXc_X2_lambda_addFee_1 : yX2_lambda_addFee_1.cls ≠ "java/lang/invoke/MethodHandle" ∧ yX2_lambda_addFee_1.cls ≠ "java/lang/invoke/VarHandle" ∧ (parseMethodDescriptor yX2_lambda_addFee_1.desc).map (fun d => d.parameters.length) = some 3 := by decide +kernel
theorem dXc_X2_lambda_addFee_1V : yX2_lambda_addFee_1.cls = RX2 ∧ yX2_lambda_addFee_1.cls ≠ "java/lang/invoke/MethodHandle" ∧ yX2_lambda_addFee_1.cls ≠ "java/lang/invoke/VarHandle" ∧ (parseMethodDescriptor yX2_lambda_addFee_1.desc).map (fun d => d.parameters.length) = some 3 := ⟨rfl, dXc_X2_lambda_addFee_1⟩
theorem dXc_X1_lambda_new_1 : yX1_lambda_new_1.cls ≠ "java/lang/invoke/MethodHandle" ∧ yX1_lambda_new_1.cls ≠ "java/lang/invoke/VarHandle" ∧ (parseMethodDescriptor yX1_lambda_new_1.desc).map (fun d => d.parameters.length) = some 3 := by decide +kernel
theorem dXc_X1_lambda_new_1V : yX1_lambda_new_1.cls = RX1 ∧ yX1_lambda_new_1.cls ≠ "java/lang/invoke/MethodHandle" ∧ yX1_lambda_new_1.cls ≠ "java/lang/invoke/VarHandle" ∧ (parseMethodDescriptor yX1_lambda_new_1.desc).map (fun d => d.parameters.length) = some 3 := ⟨rfl, dXc_X1_lambda_new_1⟩
theorem dXc_X1_lambda_new_2 : yX1_lambda_new_2.cls ≠ "java/lang/invoke/MethodHandle" ∧ yX1_lambda_new_2.cls ≠ "java/lang/invoke/VarHandle" ∧ (parseMethodDescriptor yX1_lambda_new_2.desc).map (fun d => d.parameters.length) = some 3 := by decide +kernel
theorem dXc_X1_lambda_new_2V : yX1_lambda_new_2.cls = RX1 ∧ yX1_lambda_new_2.cls ≠ "java/lang/invoke/MethodHandle" ∧ yX1_lambda_new_2.cls ≠ "java/lang/invoke/VarHandle" ∧ (parseMethodDescriptor yX1_lambda_new_2.desc).map (fun d => d.parameters.length) = some 3 := ⟨rfl, dXc_X1_lambda_new_2⟩
theorem dXc_X1_lambda_new_3 : yX1_lambda_new_3.cls ≠ "java/lang/invoke/MethodHandle" ∧ yX1_lambda_new_3.cls ≠ "java/lang/invoke/VarHandle" ∧ (parseMethodDescriptor yX1_lambda_new_3.desc).map (fun d => d.parameters.length) = some 3 := by decide +kernel
theorem dXc_X1_lambda_new_3V : yX1_lambda_new_3.cls = RX1 ∧ yX1_lambda_new_3.cls ≠ "java/lang/invoke/MethodHandle" ∧ yX1_lambda_new_3.cls ≠ "java/lang/invoke/VarHandle" ∧ (parseMethodDescriptor yX1_lambda_new_3.desc).map (fun d => d.parameters.length) = some 3 := ⟨rfl, dXc_X1_lambda_new_3⟩
theorem dXc_X1_lambda_new_4 : yX1_lambda_new_4.cls ≠ "java/lang/invoke/MethodHandle" ∧ yX1_lambda_new_4.cls ≠ "java/lang/invoke/VarHandle" ∧ (parseMethodDescriptor yX1_lambda_new_4.desc).map (fun d => d.parameters.length) = some 3 := by decide +kernel
theorem dXc_X1_lambda_new_4V : yX1_lambda_new_4.cls = RX1 ∧ yX1_lambda_new_4.cls ≠ "java/lang/invoke/MethodHandle" ∧ yX1_lambda_new_4.cls ≠ "java/lang/invoke/VarHandle" ∧ (parseMethodDescriptor yX1_lambda_new_4.desc).map (fun d => d.parameters.length) = some 3 := ⟨rfl, dXc_X1_lambda_new_4⟩
theorem dXc_X1_lambda_new_5 : yX1_lambda_new_5.cls ≠ "java/lang/invoke/MethodHandle" ∧ yX1_lambda_new_5.cls ≠ "java/lang/invoke/VarHandle" ∧ (parseMethodDescriptor yX1_lambda_new_5.desc).map (fun d => d.parameters.length) = some 3 := by decide +kernel
theorem dXc_X1_lambda_new_5V : yX1_lambda_new_5.cls = RX1 ∧ yX1_lambda_new_5.cls ≠ "java/lang/invoke/MethodHandle" ∧ yX1_lambda_new_5.cls ≠ "java/lang/invoke/VarHandle" ∧ (parseMethodDescriptor yX1_lambda_new_5.desc).map (fun d => d.parameters.length) = some 3 := ⟨rfl, dXc_X1_lambda_new_5⟩
theorem dXc_X1_lambda_new_6 : yX1_lambda_new_6.cls ≠ "java/lang/invoke/MethodHandle" ∧ yX1_lambda_new_6.cls ≠ "java/lang/invoke/VarHandle" ∧ (parseMethodDescriptor yX1_lambda_new_6.desc).map (fun d => d.parameters.length) = some 3 := by decide +kernel
theorem dXc_X1_lambda_new_6V : yX1_lambda_new_6.cls = RX1 ∧ yX1_lambda_new_6.cls ≠ "java/lang/invoke/MethodHandle" ∧ yX1_lambda_new_6.cls ≠ "java/lang/invoke/VarHandle" ∧ (parseMethodDescriptor yX1_lambda_new_6.desc).map (fun d => d.parameters.length) = some 3 := ⟨rfl, dXc_X1_lambda_new_6⟩
def fw0 : ByteArray := ⟨#[42, 180, 0, 17, 42, 180, 0, 19, 42, 180, 0, 21, 27, 28, 29, 184, 0, 29, 172]⟩
theorem dfw0_0 : decode fw0 0 = .ok (.aload_n 0, 1) := by decide +kernel
theorem dfw0_1 : decode fw0 1 = .ok (.getfield 17, 3) := by decide +kernel
theorem dfw0_4 : decode fw0 4 = .ok (.aload_n 0, 1) := by decide +kernel
theorem dfw0_5 : decode fw0 5 = .ok (.getfield 19, 3) := by decide +kernel
theorem dfw0_8 : decode fw0 8 = .ok (.aload_n 0, 1) := by decide +kernel
theorem dfw0_9 : decode fw0 9 = .ok (.getfield 21, 3) := by decide +kernel
theorem dfw0_12 : decode fw0 12 = .ok (.iload_n 1, 1) := by decide +kernel
theorem dfw0_13 : decode fw0 13 = .ok (.iload_n 2, 1) := by decide +kernel
theorem dfw0_14 : decode fw0 14 = .ok (.iload_n 3, 1) := by decide +kernel
theorem dfw0_15 : decode fw0 15 = .ok (.invokestatic 29, 3) := by decide +kernel
theorem dfw0_18 : decode fw0 18 = .ok (.ireturn, 1) := by decide +kernel
def lD20 : ClassFile := (xsh20.file "HallPlan").getD { minorVersion := 0, majorVersion := 0, constantPool := #[], accessFlags := 0, thisClass := 0, superClass := 0, interfaces := #[], fields := #[], methods := #[], attributes := #[] }
def lM20 : Method := ((layoutMethods lD20).bind (·[1]?)).getD default
def lY20 : xLay := (layoutFields lD20 0).getD (#[], #[], #[])
theorem xF20 : xFile xsh20 xsm20.cls lD20 lM20 lY20 := by
  refine ⟨?_, ?_, ?_⟩
  · have h : (xsh20.file "HallPlan").isSome = true := by decide +kernel
    obtain ⟨x, hx⟩ := Option.isSome_iff_exists.mp h
    show xsh20.file "HallPlan" = _
    simp [lD20, hx]
  · have h : ((layoutMethods lD20).bind (·[1]?)).isSome = true := by decide +kernel
    obtain ⟨x, hx⟩ := Option.isSome_iff_exists.mp h
    simp [lM20, hx]
  · have h : (layoutFields lD20 0).isSome = true := by decide +kernel
    obtain ⟨x, hx⟩ := Option.isSome_iff_exists.mp h
    simp [lY20, hx]
theorem xFc20 : (lM20.code.map fun c => (c.code.data, c.maxLocals)) = some (fw0.data, 4) := by decide +kernel
theorem xFl20 : lM20.accessFlags = 1 := by decide +kernel
theorem xFr20 : lM20.sig.returnType = some .boolean := by decide +kernel
def lf20_0 : Field := (lY20.1[0]?).getD default
theorem xd20_0 : xFd lD20 lY20 0 17 lf20_0 := by
  have h : (lY20.1[0]?).isSome = true := by decide +kernel
  obtain ⟨x, hx⟩ := Option.isSome_iff_exists.mp h
  exact ⟨2, 16, "arg$1", "I", by decide +kernel, by decide +kernel, by decide +kernel, by simp [lf20_0, hx], by decide +kernel, by decide +kernel⟩
def lf20_1 : Field := (lY20.1[1]?).getD default
theorem xd20_1 : xFd lD20 lY20 1 19 lf20_1 := by
  have h : (lY20.1[1]?).isSome = true := by decide +kernel
  obtain ⟨x, hx⟩ := Option.isSome_iff_exists.mp h
  exact ⟨2, 18, "arg$2", "I", by decide +kernel, by decide +kernel, by decide +kernel, by simp [lf20_1, hx], by decide +kernel, by decide +kernel⟩
def lf20_2 : Field := (lY20.1[2]?).getD default
theorem xd20_2 : xFd lD20 lY20 2 21 lf20_2 := by
  have h : (lY20.1[2]?).isSome = true := by decide +kernel
  obtain ⟨x, hx⟩ := Option.isSome_iff_exists.mp h
  exact ⟨2, 20, "arg$3", "I", by decide +kernel, by decide +kernel, by decide +kernel, by simp [lf20_2, hx], by decide +kernel, by decide +kernel⟩
theorem xm20 : xMd lD20 29 25 yX1_lambda_closure_0.cls yX1_lambda_closure_0.name yX1_lambda_closure_0.desc := ⟨28, 24, by decide +kernel, by decide +kernel, by decide +kernel, by decide +kernel, by decide +kernel, by decide +kernel⟩
def lD21 : ClassFile := (xsh21.file "HallPlan$Setup").getD { minorVersion := 0, majorVersion := 0, constantPool := #[], accessFlags := 0, thisClass := 0, superClass := 0, interfaces := #[], fields := #[], methods := #[], attributes := #[] }
def lM21 : Method := ((layoutMethods lD21).bind (·[1]?)).getD default
def lY21 : xLay := (layoutFields lD21 0).getD (#[], #[], #[])
theorem xF21 : xFile xsh21 xsm21.cls lD21 lM21 lY21 := by
  refine ⟨?_, ?_, ?_⟩
  · have h : (xsh21.file "HallPlan$Setup").isSome = true := by decide +kernel
    obtain ⟨x, hx⟩ := Option.isSome_iff_exists.mp h
    show xsh21.file "HallPlan$Setup" = _
    simp [lD21, hx]
  · have h : ((layoutMethods lD21).bind (·[1]?)).isSome = true := by decide +kernel
    obtain ⟨x, hx⟩ := Option.isSome_iff_exists.mp h
    simp [lM21, hx]
  · have h : (layoutFields lD21 0).isSome = true := by decide +kernel
    obtain ⟨x, hx⟩ := Option.isSome_iff_exists.mp h
    simp [lY21, hx]
theorem xFc21 : (lM21.code.map fun c => (c.code.data, c.maxLocals)) = some (fw0.data, 4) := by decide +kernel
theorem xFl21 : lM21.accessFlags = 1 := by decide +kernel
theorem xFr21 : lM21.sig.returnType = some .boolean := by decide +kernel
def lf21_0 : Field := (lY21.1[0]?).getD default
theorem xd21_0 : xFd lD21 lY21 0 17 lf21_0 := by
  have h : (lY21.1[0]?).isSome = true := by decide +kernel
  obtain ⟨x, hx⟩ := Option.isSome_iff_exists.mp h
  exact ⟨2, 16, "arg$1", "I", by decide +kernel, by decide +kernel, by decide +kernel, by simp [lf21_0, hx], by decide +kernel, by decide +kernel⟩
def lf21_1 : Field := (lY21.1[1]?).getD default
theorem xd21_1 : xFd lD21 lY21 1 19 lf21_1 := by
  have h : (lY21.1[1]?).isSome = true := by decide +kernel
  obtain ⟨x, hx⟩ := Option.isSome_iff_exists.mp h
  exact ⟨2, 18, "arg$2", "I", by decide +kernel, by decide +kernel, by decide +kernel, by simp [lf21_1, hx], by decide +kernel, by decide +kernel⟩
def lf21_2 : Field := (lY21.1[2]?).getD default
theorem xd21_2 : xFd lD21 lY21 2 21 lf21_2 := by
  have h : (lY21.1[2]?).isSome = true := by decide +kernel
  obtain ⟨x, hx⟩ := Option.isSome_iff_exists.mp h
  exact ⟨2, 20, "arg$3", "I", by decide +kernel, by decide +kernel, by decide +kernel, by simp [lf21_2, hx], by decide +kernel, by decide +kernel⟩
theorem xm21 : xMd lD21 29 25 yX2_lambda_addWeekly_0.cls yX2_lambda_addWeekly_0.name yX2_lambda_addWeekly_0.desc := ⟨28, 24, by decide +kernel, by decide +kernel, by decide +kernel, by decide +kernel, by decide +kernel, by decide +kernel⟩
def fw1 : ByteArray := ⟨#[42, 180, 0, 16, 42, 180, 0, 18, 27, 184, 0, 26, 172]⟩
theorem dfw1_0 : decode fw1 0 = .ok (.aload_n 0, 1) := by decide +kernel
theorem dfw1_1 : decode fw1 1 = .ok (.getfield 16, 3) := by decide +kernel
theorem dfw1_4 : decode fw1 4 = .ok (.aload_n 0, 1) := by decide +kernel
theorem dfw1_5 : decode fw1 5 = .ok (.getfield 18, 3) := by decide +kernel
theorem dfw1_8 : decode fw1 8 = .ok (.iload_n 1, 1) := by decide +kernel
theorem dfw1_9 : decode fw1 9 = .ok (.invokestatic 26, 3) := by decide +kernel
theorem dfw1_12 : decode fw1 12 = .ok (.ireturn, 1) := by decide +kernel
def lD22 : ClassFile := (xsh22.file "HallPlan$Setup").getD { minorVersion := 0, majorVersion := 0, constantPool := #[], accessFlags := 0, thisClass := 0, superClass := 0, interfaces := #[], fields := #[], methods := #[], attributes := #[] }
def lM22 : Method := ((layoutMethods lD22).bind (·[1]?)).getD default
def lY22 : xLay := (layoutFields lD22 0).getD (#[], #[], #[])
theorem xF22 : xFile xsh22 xsm22.cls lD22 lM22 lY22 := by
  refine ⟨?_, ?_, ?_⟩
  · have h : (xsh22.file "HallPlan$Setup").isSome = true := by decide +kernel
    obtain ⟨x, hx⟩ := Option.isSome_iff_exists.mp h
    show xsh22.file "HallPlan$Setup" = _
    simp [lD22, hx]
  · have h : ((layoutMethods lD22).bind (·[1]?)).isSome = true := by decide +kernel
    obtain ⟨x, hx⟩ := Option.isSome_iff_exists.mp h
    simp [lM22, hx]
  · have h : (layoutFields lD22 0).isSome = true := by decide +kernel
    obtain ⟨x, hx⟩ := Option.isSome_iff_exists.mp h
    simp [lY22, hx]
theorem xFc22 : (lM22.code.map fun c => (c.code.data, c.maxLocals)) = some (fw1.data, 2) := by decide +kernel
theorem xFl22 : lM22.accessFlags = 1 := by decide +kernel
theorem xFr22 : lM22.sig.returnType = some .int := by decide +kernel
def lf22_0 : Field := (lY22.1[0]?).getD default
theorem xd22_0 : xFd lD22 lY22 0 16 lf22_0 := by
  have h : (lY22.1[0]?).isSome = true := by decide +kernel
  obtain ⟨x, hx⟩ := Option.isSome_iff_exists.mp h
  exact ⟨2, 15, "arg$1", "I", by decide +kernel, by decide +kernel, by decide +kernel, by simp [lf22_0, hx], by decide +kernel, by decide +kernel⟩
def lf22_1 : Field := (lY22.1[1]?).getD default
theorem xd22_1 : xFd lD22 lY22 1 18 lf22_1 := by
  have h : (lY22.1[1]?).isSome = true := by decide +kernel
  obtain ⟨x, hx⟩ := Option.isSome_iff_exists.mp h
  exact ⟨2, 17, "arg$2", "I", by decide +kernel, by decide +kernel, by decide +kernel, by simp [lf22_1, hx], by decide +kernel, by decide +kernel⟩
theorem xm22 : xMd lD22 26 22 yX2_lambda_addFee_1.cls yX2_lambda_addFee_1.name yX2_lambda_addFee_1.desc := ⟨25, 21, by decide +kernel, by decide +kernel, by decide +kernel, by decide +kernel, by decide +kernel, by decide +kernel⟩
def fw2 : ByteArray := ⟨#[42, 180, 0, 15, 43, 28, 29, 182, 0, 22, 172]⟩
theorem dfw2_0 : decode fw2 0 = .ok (.aload_n 0, 1) := by decide +kernel
theorem dfw2_1 : decode fw2 1 = .ok (.getfield 15, 3) := by decide +kernel
theorem dfw2_4 : decode fw2 4 = .ok (.aload_n 1, 1) := by decide +kernel
theorem dfw2_5 : decode fw2 5 = .ok (.iload_n 2, 1) := by decide +kernel
theorem dfw2_6 : decode fw2 6 = .ok (.iload_n 3, 1) := by decide +kernel
theorem dfw2_7 : decode fw2 7 = .ok (.invokevirtual 22, 3) := by decide +kernel
theorem dfw2_10 : decode fw2 10 = .ok (.ireturn, 1) := by decide +kernel
def lD23 : ClassFile := (xsh23.file "HallPlan").getD { minorVersion := 0, majorVersion := 0, constantPool := #[], accessFlags := 0, thisClass := 0, superClass := 0, interfaces := #[], fields := #[], methods := #[], attributes := #[] }
def lM23 : Method := ((layoutMethods lD23).bind (·[1]?)).getD default
def lY23 : xLay := (layoutFields lD23 0).getD (#[], #[], #[])
theorem xF23 : xFile xsh23 xsm23.cls lD23 lM23 lY23 := by
  refine ⟨?_, ?_, ?_⟩
  · have h : (xsh23.file "HallPlan").isSome = true := by decide +kernel
    obtain ⟨x, hx⟩ := Option.isSome_iff_exists.mp h
    show xsh23.file "HallPlan" = _
    simp [lD23, hx]
  · have h : ((layoutMethods lD23).bind (·[1]?)).isSome = true := by decide +kernel
    obtain ⟨x, hx⟩ := Option.isSome_iff_exists.mp h
    simp [lM23, hx]
  · have h : (layoutFields lD23 0).isSome = true := by decide +kernel
    obtain ⟨x, hx⟩ := Option.isSome_iff_exists.mp h
    simp [lY23, hx]
theorem xFc23 : (lM23.code.map fun c => (c.code.data, c.maxLocals)) = some (fw2.data, 4) := by decide +kernel
theorem xFl23 : lM23.accessFlags = 1 := by decide +kernel
theorem xFr23 : lM23.sig.returnType = some .boolean := by decide +kernel
def lf23_0 : Field := (lY23.1[0]?).getD default
theorem xd23_0 : xFd lD23 lY23 0 15 lf23_0 := by
  have h : (lY23.1[0]?).isSome = true := by decide +kernel
  obtain ⟨x, hx⟩ := Option.isSome_iff_exists.mp h
  exact ⟨2, 14, "arg$1", "LHallPlan;", by decide +kernel, by decide +kernel, by decide +kernel, by simp [lf23_0, hx], by decide +kernel, by decide +kernel⟩
theorem xm23 : xMd lD23 22 19 yX1_lambda_new_1.cls yX1_lambda_new_1.name yX1_lambda_new_1.desc := ⟨21, 18, by decide +kernel, by decide +kernel, by decide +kernel, by decide +kernel, by decide +kernel, by decide +kernel⟩
def lD24 : ClassFile := (xsh24.file "HallPlan").getD { minorVersion := 0, majorVersion := 0, constantPool := #[], accessFlags := 0, thisClass := 0, superClass := 0, interfaces := #[], fields := #[], methods := #[], attributes := #[] }
def lM24 : Method := ((layoutMethods lD24).bind (·[1]?)).getD default
def lY24 : xLay := (layoutFields lD24 0).getD (#[], #[], #[])
theorem xF24 : xFile xsh24 xsm24.cls lD24 lM24 lY24 := by
  refine ⟨?_, ?_, ?_⟩
  · have h : (xsh24.file "HallPlan").isSome = true := by decide +kernel
    obtain ⟨x, hx⟩ := Option.isSome_iff_exists.mp h
    show xsh24.file "HallPlan" = _
    simp [lD24, hx]
  · have h : ((layoutMethods lD24).bind (·[1]?)).isSome = true := by decide +kernel
    obtain ⟨x, hx⟩ := Option.isSome_iff_exists.mp h
    simp [lM24, hx]
  · have h : (layoutFields lD24 0).isSome = true := by decide +kernel
    obtain ⟨x, hx⟩ := Option.isSome_iff_exists.mp h
    simp [lY24, hx]
theorem xFc24 : (lM24.code.map fun c => (c.code.data, c.maxLocals)) = some (fw2.data, 4) := by decide +kernel
theorem xFl24 : lM24.accessFlags = 1 := by decide +kernel
theorem xFr24 : lM24.sig.returnType = some .boolean := by decide +kernel
def lf24_0 : Field := (lY24.1[0]?).getD default
theorem xd24_0 : xFd lD24 lY24 0 15 lf24_0 := by
  have h : (lY24.1[0]?).isSome = true := by decide +kernel
  obtain ⟨x, hx⟩ := Option.isSome_iff_exists.mp h
  exact ⟨2, 14, "arg$1", "LHallPlan;", by decide +kernel, by decide +kernel, by decide +kernel, by simp [lf24_0, hx], by decide +kernel, by decide +kernel⟩
theorem xm24 : xMd lD24 22 19 yX1_lambda_new_2.cls yX1_lambda_new_2.name yX1_lambda_new_2.desc := ⟨21, 18, by decide +kernel, by decide +kernel, by decide +kernel, by decide +kernel, by decide +kernel, by decide +kernel⟩
def lD25 : ClassFile := (xsh25.file "HallPlan").getD { minorVersion := 0, majorVersion := 0, constantPool := #[], accessFlags := 0, thisClass := 0, superClass := 0, interfaces := #[], fields := #[], methods := #[], attributes := #[] }
def lM25 : Method := ((layoutMethods lD25).bind (·[1]?)).getD default
def lY25 : xLay := (layoutFields lD25 0).getD (#[], #[], #[])
theorem xF25 : xFile xsh25 xsm25.cls lD25 lM25 lY25 := by
  refine ⟨?_, ?_, ?_⟩
  · have h : (xsh25.file "HallPlan").isSome = true := by decide +kernel
    obtain ⟨x, hx⟩ := Option.isSome_iff_exists.mp h
    show xsh25.file "HallPlan" = _
    simp [lD25, hx]
  · have h : ((layoutMethods lD25).bind (·[1]?)).isSome = true := by decide +kernel
    obtain ⟨x, hx⟩ := Option.isSome_iff_exists.mp h
    simp [lM25, hx]
  · have h : (layoutFields lD25 0).isSome = true := by decide +kernel
    obtain ⟨x, hx⟩ := Option.isSome_iff_exists.mp h
    simp [lY25, hx]
theorem xFc25 : (lM25.code.map fun c => (c.code.data, c.maxLocals)) = some (fw2.data, 4) := by decide +kernel
theorem xFl25 : lM25.accessFlags = 1 := by decide +kernel
theorem xFr25 : lM25.sig.returnType = some .boolean := by decide +kernel
def lf25_0 : Field := (lY25.1[0]?).getD default
theorem xd25_0 : xFd lD25 lY25 0 15 lf25_0 := by
  have h : (lY25.1[0]?).isSome = true := by decide +kernel
  obtain ⟨x, hx⟩ := Option.isSome_iff_exists.mp h
  exact ⟨2, 14, "arg$1", "LHallPlan;", by decide +kernel, by decide +kernel, by decide +kernel, by simp [lf25_0, hx], by decide +kernel, by decide +kernel⟩
theorem xm25 : xMd lD25 22 19 yX1_lambda_new_3.cls yX1_lambda_new_3.name yX1_lambda_new_3.desc := ⟨21, 18, by decide +kernel, by decide +kernel, by decide +kernel, by decide +kernel, by decide +kernel, by decide +kernel⟩
def lD26 : ClassFile := (xsh26.file "HallPlan").getD { minorVersion := 0, majorVersion := 0, constantPool := #[], accessFlags := 0, thisClass := 0, superClass := 0, interfaces := #[], fields := #[], methods := #[], attributes := #[] }
def lM26 : Method := ((layoutMethods lD26).bind (·[1]?)).getD default
def lY26 : xLay := (layoutFields lD26 0).getD (#[], #[], #[])
theorem xF26 : xFile xsh26 xsm26.cls lD26 lM26 lY26 := by
  refine ⟨?_, ?_, ?_⟩
  · have h : (xsh26.file "HallPlan").isSome = true := by decide +kernel
    obtain ⟨x, hx⟩ := Option.isSome_iff_exists.mp h
    show xsh26.file "HallPlan" = _
    simp [lD26, hx]
  · have h : ((layoutMethods lD26).bind (·[1]?)).isSome = true := by decide +kernel
    obtain ⟨x, hx⟩ := Option.isSome_iff_exists.mp h
    simp [lM26, hx]
  · have h : (layoutFields lD26 0).isSome = true := by decide +kernel
    obtain ⟨x, hx⟩ := Option.isSome_iff_exists.mp h
    simp [lY26, hx]
theorem xFc26 : (lM26.code.map fun c => (c.code.data, c.maxLocals)) = some (fw2.data, 4) := by decide +kernel
theorem xFl26 : lM26.accessFlags = 1 := by decide +kernel
theorem xFr26 : lM26.sig.returnType = some .boolean := by decide +kernel
def lf26_0 : Field := (lY26.1[0]?).getD default
theorem xd26_0 : xFd lD26 lY26 0 15 lf26_0 := by
  have h : (lY26.1[0]?).isSome = true := by decide +kernel
  obtain ⟨x, hx⟩ := Option.isSome_iff_exists.mp h
  exact ⟨2, 14, "arg$1", "LHallPlan;", by decide +kernel, by decide +kernel, by decide +kernel, by simp [lf26_0, hx], by decide +kernel, by decide +kernel⟩
theorem xm26 : xMd lD26 22 19 yX1_lambda_new_4.cls yX1_lambda_new_4.name yX1_lambda_new_4.desc := ⟨21, 18, by decide +kernel, by decide +kernel, by decide +kernel, by decide +kernel, by decide +kernel, by decide +kernel⟩
def lD27 : ClassFile := (xsh27.file "HallPlan").getD { minorVersion := 0, majorVersion := 0, constantPool := #[], accessFlags := 0, thisClass := 0, superClass := 0, interfaces := #[], fields := #[], methods := #[], attributes := #[] }
def lM27 : Method := ((layoutMethods lD27).bind (·[1]?)).getD default
def lY27 : xLay := (layoutFields lD27 0).getD (#[], #[], #[])
theorem xF27 : xFile xsh27 xsm27.cls lD27 lM27 lY27 := by
  refine ⟨?_, ?_, ?_⟩
  · have h : (xsh27.file "HallPlan").isSome = true := by decide +kernel
    obtain ⟨x, hx⟩ := Option.isSome_iff_exists.mp h
    show xsh27.file "HallPlan" = _
    simp [lD27, hx]
  · have h : ((layoutMethods lD27).bind (·[1]?)).isSome = true := by decide +kernel
    obtain ⟨x, hx⟩ := Option.isSome_iff_exists.mp h
    simp [lM27, hx]
  · have h : (layoutFields lD27 0).isSome = true := by decide +kernel
    obtain ⟨x, hx⟩ := Option.isSome_iff_exists.mp h
    simp [lY27, hx]
theorem xFc27 : (lM27.code.map fun c => (c.code.data, c.maxLocals)) = some (fw2.data, 4) := by decide +kernel
theorem xFl27 : lM27.accessFlags = 1 := by decide +kernel
theorem xFr27 : lM27.sig.returnType = some .boolean := by decide +kernel
def lf27_0 : Field := (lY27.1[0]?).getD default
theorem xd27_0 : xFd lD27 lY27 0 15 lf27_0 := by
  have h : (lY27.1[0]?).isSome = true := by decide +kernel
  obtain ⟨x, hx⟩ := Option.isSome_iff_exists.mp h
  exact ⟨2, 14, "arg$1", "LHallPlan;", by decide +kernel, by decide +kernel, by decide +kernel, by simp [lf27_0, hx], by decide +kernel, by decide +kernel⟩
theorem xm27 : xMd lD27 22 19 yX1_lambda_new_5.cls yX1_lambda_new_5.name yX1_lambda_new_5.desc := ⟨21, 18, by decide +kernel, by decide +kernel, by decide +kernel, by decide +kernel, by decide +kernel, by decide +kernel⟩
def lD28 : ClassFile := (xsh28.file "HallPlan").getD { minorVersion := 0, majorVersion := 0, constantPool := #[], accessFlags := 0, thisClass := 0, superClass := 0, interfaces := #[], fields := #[], methods := #[], attributes := #[] }
def lM28 : Method := ((layoutMethods lD28).bind (·[1]?)).getD default
def lY28 : xLay := (layoutFields lD28 0).getD (#[], #[], #[])
theorem xF28 : xFile xsh28 xsm28.cls lD28 lM28 lY28 := by
  refine ⟨?_, ?_, ?_⟩
  · have h : (xsh28.file "HallPlan").isSome = true := by decide +kernel
    obtain ⟨x, hx⟩ := Option.isSome_iff_exists.mp h
    show xsh28.file "HallPlan" = _
    simp [lD28, hx]
  · have h : ((layoutMethods lD28).bind (·[1]?)).isSome = true := by decide +kernel
    obtain ⟨x, hx⟩ := Option.isSome_iff_exists.mp h
    simp [lM28, hx]
  · have h : (layoutFields lD28 0).isSome = true := by decide +kernel
    obtain ⟨x, hx⟩ := Option.isSome_iff_exists.mp h
    simp [lY28, hx]
theorem xFc28 : (lM28.code.map fun c => (c.code.data, c.maxLocals)) = some (fw2.data, 4) := by decide +kernel
theorem xFl28 : lM28.accessFlags = 1 := by decide +kernel
theorem xFr28 : lM28.sig.returnType = some .boolean := by decide +kernel
def lf28_0 : Field := (lY28.1[0]?).getD default
theorem xd28_0 : xFd lD28 lY28 0 15 lf28_0 := by
  have h : (lY28.1[0]?).isSome = true := by decide +kernel
  obtain ⟨x, hx⟩ := Option.isSome_iff_exists.mp h
  exact ⟨2, 14, "arg$1", "LHallPlan;", by decide +kernel, by decide +kernel, by decide +kernel, by simp [lf28_0, hx], by decide +kernel, by decide +kernel⟩
theorem xm28 : xMd lD28 22 19 yX1_lambda_new_6.cls yX1_lambda_new_6.name yX1_lambda_new_6.desc := ⟨21, 18, by decide +kernel, by decide +kernel, by decide +kernel, by decide +kernel, by decide +kernel, by decide +kernel⟩

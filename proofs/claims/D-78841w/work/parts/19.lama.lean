/-! The lambdas: 'aload_1; checkcast; invokestatic; ireturn' of a made class; its five sites; invokedynamic and Rank.of as rows of Y. The proofs are turned from the worked proofs of calls of made classes. -/
set_option maxRecDepth 100000
def y_fwdB : ByteArray := ⟨#[0x2b, 0xc0, 0x00, 0x0e, 0xb8, 0x00, 0x14, 0xac]⟩
theorem y_f0 : decode y_fwdB 0 = .ok (.aload_n 1, 1) := by decide +kernel
theorem y_f1 : decode y_fwdB 1 = .ok (.checkcast 14, 3) := by decide +kernel
theorem y_f4 : decode y_fwdB 4 = .ok (.invokestatic 20, 3) := by decide +kernel
theorem y_f7 : decode y_fwdB 7 = .ok (.ireturn, 1) := by decide +kernel
def y_sh (w : Cond) : Lambda.Shape := match w with
  | .lambdaSite _ _ _ sh => sh
  | _ => { iface := "", name := "", sam := ⟨[], none⟩, captured := [], kind := 6, implClass := "", implName := "", implDesc := ⟨[], none⟩, implItf := false, inst := ⟨[], none⟩ }
/-- what the tables say of the class that is made for the shape sg -/
def yLf (sg : Lambda.Shape) (y : MethodName) (cast : String) : Prop := ∀ (vm : Vm) (d c cT : ClassId) (dk : Class), vm.classes[d]? = some dk → dk.name = y.cls → Lambda.isMade { classPath := fun _ => none } vm d sg c = true → vm.findClass cast = some cT →
    ∃ (k tk : Class) (file : ClassFile) (methk : Method) (ck : Code) (toy : ClassId) (t : MethodId),
      vm.classes[c]? = some k ∧ plainName k.name = true ∧ k.cf = some file ∧ file.constantPool[20]? = some (.methodref 16 19) ∧ file.constantPool.nameAndType? 19 = some (y.name, y.desc) ∧
      vm.method? ⟨c, 1⟩ = some methk ∧ methk.code = some ck ∧ ck.code = y_fwdB ∧ ck.maxLocals = 2 ∧ methk.locks = false ∧ methk.accessFlags = 0x0001 ∧ methk.sig.returnType = some .int ∧
      vm.findClass y.cls = some toy ∧ vm.classes[toy]? = some tk ∧ ((methodIn toy y.name y.desc tk.isInterface none).ask { classPath := fun _ => none } vm).1 = .ok t ∧
      vm.methodReady c 20 t ∧ vm.classReady c 16 toy ∧ vm.classReady c 14 cT

def ys4_sg : Lambda.Shape := y_sh siteWord_1_1
def ys4_D : ClassFile := (ys4_sg.file "DimensionLines$Drawing").getD { minorVersion := 0, majorVersion := 0, constantPool := #[], accessFlags := 0, thisClass := 0, superClass := 0, interfaces := #[], fields := #[], methods := #[], attributes := #[] }
def ys4_forwarder : Method := ((layoutMethods ys4_D).bind (·[1]?)).getD default
theorem ys4_file_is : ys4_sg.file "DimensionLines$Drawing" = some ys4_D := by
  have h : (ys4_sg.file "DimensionLines$Drawing").isSome = true := by decide +kernel
  obtain ⟨x, hx⟩ := Option.isSome_iff_exists.mp h
  simp [ys4_D, hx]
theorem ys4_second_is : ∀ ms, layoutMethods ys4_D = some ms → ms[1]? = some ys4_forwarder := by
  intro ms hms
  have h : ((layoutMethods ys4_D).bind (·[1]?)).isSome = true := by decide +kernel
  obtain ⟨x, hx⟩ := Option.isSome_iff_exists.mp h
  have hf : ys4_forwarder = x := by simp [ys4_forwarder, hx]
  rw [hms] at hx
  rw [hf]
  exact hx
theorem ys4_f_code : (ys4_forwarder.code.map fun c => (c.code.data, c.maxLocals)) = some (y_fwdB.data, 2) := by decide +kernel
theorem ys4_f_flags : (ys4_forwarder.accessFlags, ys4_forwarder.name, ys4_forwarder.sig.returnType) = (0x0001, "of", (some .int : Option FieldType)) := by decide +kernel
theorem ys4_eM : ys4_D.constantPool[20]? = some (.methodref 16 19) ∧ ys4_D.constantPool.className? 16 = some "DimensionLines$Drawing" ∧ ys4_D.constantPool.nameAndType? 19 = some ("lambda$units$0", "(LDimensionLines$Unit;)I") := by decide +kernel
theorem ys4_eC : ys4_D.constantPool[16]? = some (.class_ 15) ∧ ys4_D.constantPool.string? 15 = some "DimensionLines$Drawing" ∧ 16 ≠ ys4_D.thisClass := by decide +kernel
theorem ys4_eK0 : ys4_D.constantPool[14]? = some (.class_ 13) ∧ ys4_D.constantPool.string? 13 = some "DimensionLines$Unit" ∧ 14 ≠ ys4_D.thisClass := by decide +kernel
theorem ys4_made : yLf ys4_sg yX1_lambda_units_0 "DimensionLines$Unit" := by
  intro vm d c cT dk hd hname h hK0
  obtain ⟨dk', k, ok, tk, file, cf, object, iface, toy, lay, methods, target, found, hd', hk, hfile, hcf, hobj, -, hok, hlay, hms, ht, htk, hg, -, hrec, -, -, -, hitf, hpool, hmeth, hfields, -, hres, -⟩ := Lambda.isMade_spec h
  cases hd.symm.trans hd'
  have hname' : dk.name = "DimensionLines$Drawing" := hname
  rw [hname', ys4_file_is] at hcf
  cases hcf
  obtain ⟨b, hb, hsame⟩ := hmeth 1 ys4_forwarder (ys4_second_is methods hms)
  simp only [Lambda.sameMethod, Bool.and_eq_true, decide_eq_true_eq] at hsame
  obtain ⟨⟨hn, -, hsig, hfl⟩, hcode⟩ := hsame
  have fc := ys4_f_code
  have ff := ys4_f_flags
  simp only [Prod.mk.injEq] at ff
  cases hfc : ys4_forwarder.code with
  | none => rw [hfc] at fc; cases fc
  | some x =>
    cases hbc : b.code with
    | none => simp [hfc, hbc] at hcode
    | some y =>
      simp only [hfc, hbc, Bool.and_eq_true, decide_eq_true_eq] at hcode
      simp only [hfc, Option.map_some, Option.some.injEq, Prod.mk.injEq] at fc
      refine ⟨k, tk, file, b, y, toy, target, hk, by rw [hrec.1, hname']; decide, hfile, by rw [hpool.2.1]; exact ys4_eM.1, by rw [hpool.2.1]; exact ys4_eM.2.2, by simp [Vm.method?, hk, hb], hbc, ?_, by rw [← hcode.1.1.1.1.2.1]; exact fc.2, ?_, by rw [← hfl]; exact ff.1, by rw [← hsig]; exact ff.2.2, ht, htk, hg,
        ⟨k, hk, hres 20 _ (Lambda.resolvedOf_method ys4_eM.1 ys4_eM.2.1 ht htk ys4_eM.2.2 hg)⟩, ⟨k, hk, hres 16 _ (Lambda.resolvedOf_class ys4_eC.1 ys4_eC.2.2 ys4_eC.2.1 ht)⟩, ⟨k, hk, hres 14 _ (Lambda.resolvedOf_class ys4_eK0.1 ys4_eK0.2.2 ys4_eK0.2.1 hK0)⟩⟩
      · rw [← hcode.1.1.1.1.2.2]
        exact ByteArray.ext fc.1
      · simp [Method.locks, Method.isSynchronized, ← hfl, ff.1, hasFlag, Acc.synchronized]
theorem ys4_shape : ys4_sg.iface = "DimensionLines$Rank" ∧ ys4_sg.name = "of" ∧ ys4_sg.sam.toString = "(Ljava/lang/Object;)I" ∧ ys4_sg.captured = [] := by decide +kernel

def ys5_sg : Lambda.Shape := y_sh siteWord_1_2
def ys5_D : ClassFile := (ys5_sg.file "DimensionLines").getD { minorVersion := 0, majorVersion := 0, constantPool := #[], accessFlags := 0, thisClass := 0, superClass := 0, interfaces := #[], fields := #[], methods := #[], attributes := #[] }
def ys5_forwarder : Method := ((layoutMethods ys5_D).bind (·[1]?)).getD default
theorem ys5_file_is : ys5_sg.file "DimensionLines" = some ys5_D := by
  have h : (ys5_sg.file "DimensionLines").isSome = true := by decide +kernel
  obtain ⟨x, hx⟩ := Option.isSome_iff_exists.mp h
  simp [ys5_D, hx]
theorem ys5_second_is : ∀ ms, layoutMethods ys5_D = some ms → ms[1]? = some ys5_forwarder := by
  intro ms hms
  have h : ((layoutMethods ys5_D).bind (·[1]?)).isSome = true := by decide +kernel
  obtain ⟨x, hx⟩ := Option.isSome_iff_exists.mp h
  have hf : ys5_forwarder = x := by simp [ys5_forwarder, hx]
  rw [hms] at hx
  rw [hf]
  exact hx
theorem ys5_f_code : (ys5_forwarder.code.map fun c => (c.code.data, c.maxLocals)) = some (y_fwdB.data, 2) := by decide +kernel
theorem ys5_f_flags : (ys5_forwarder.accessFlags, ys5_forwarder.name, ys5_forwarder.sig.returnType) = (0x0001, "of", (some .int : Option FieldType)) := by decide +kernel
theorem ys5_eM : ys5_D.constantPool[20]? = some (.methodref 16 19) ∧ ys5_D.constantPool.className? 16 = some "DimensionLines" ∧ ys5_D.constantPool.nameAndType? 19 = some ("lambda$isClosed$0", "(LDimensionLines$Dimension;)I") := by decide +kernel
theorem ys5_eC : ys5_D.constantPool[16]? = some (.class_ 15) ∧ ys5_D.constantPool.string? 15 = some "DimensionLines" ∧ 16 ≠ ys5_D.thisClass := by decide +kernel
theorem ys5_eK0 : ys5_D.constantPool[14]? = some (.class_ 13) ∧ ys5_D.constantPool.string? 13 = some "DimensionLines$Dimension" ∧ 14 ≠ ys5_D.thisClass := by decide +kernel
theorem ys5_made : yLf ys5_sg yX0_lambda_isClosed_0 "DimensionLines$Dimension" := by
  intro vm d c cT dk hd hname h hK0
  obtain ⟨dk', k, ok, tk, file, cf, object, iface, toy, lay, methods, target, found, hd', hk, hfile, hcf, hobj, -, hok, hlay, hms, ht, htk, hg, -, hrec, -, -, -, hitf, hpool, hmeth, hfields, -, hres, -⟩ := Lambda.isMade_spec h
  cases hd.symm.trans hd'
  have hname' : dk.name = "DimensionLines" := hname
  rw [hname', ys5_file_is] at hcf
  cases hcf
  obtain ⟨b, hb, hsame⟩ := hmeth 1 ys5_forwarder (ys5_second_is methods hms)
  simp only [Lambda.sameMethod, Bool.and_eq_true, decide_eq_true_eq] at hsame
  obtain ⟨⟨hn, -, hsig, hfl⟩, hcode⟩ := hsame
  have fc := ys5_f_code
  have ff := ys5_f_flags
  simp only [Prod.mk.injEq] at ff
  cases hfc : ys5_forwarder.code with
  | none => rw [hfc] at fc; cases fc
  | some x =>
    cases hbc : b.code with
    | none => simp [hfc, hbc] at hcode
    | some y =>
      simp only [hfc, hbc, Bool.and_eq_true, decide_eq_true_eq] at hcode
      simp only [hfc, Option.map_some, Option.some.injEq, Prod.mk.injEq] at fc
      refine ⟨k, tk, file, b, y, toy, target, hk, by rw [hrec.1, hname']; decide, hfile, by rw [hpool.2.1]; exact ys5_eM.1, by rw [hpool.2.1]; exact ys5_eM.2.2, by simp [Vm.method?, hk, hb], hbc, ?_, by rw [← hcode.1.1.1.1.2.1]; exact fc.2, ?_, by rw [← hfl]; exact ff.1, by rw [← hsig]; exact ff.2.2, ht, htk, hg,
        ⟨k, hk, hres 20 _ (Lambda.resolvedOf_method ys5_eM.1 ys5_eM.2.1 ht htk ys5_eM.2.2 hg)⟩, ⟨k, hk, hres 16 _ (Lambda.resolvedOf_class ys5_eC.1 ys5_eC.2.2 ys5_eC.2.1 ht)⟩, ⟨k, hk, hres 14 _ (Lambda.resolvedOf_class ys5_eK0.1 ys5_eK0.2.2 ys5_eK0.2.1 hK0)⟩⟩
      · rw [← hcode.1.1.1.1.2.2]
        exact ByteArray.ext fc.1
      · simp [Method.locks, Method.isSynchronized, ← hfl, ff.1, hasFlag, Acc.synchronized]
theorem ys5_shape : ys5_sg.iface = "DimensionLines$Rank" ∧ ys5_sg.name = "of" ∧ ys5_sg.sam.toString = "(Ljava/lang/Object;)I" ∧ ys5_sg.captured = [] := by decide +kernel

def ys6_sg : Lambda.Shape := y_sh siteWord_1_3
def ys6_D : ClassFile := (ys6_sg.file "DimensionLines").getD { minorVersion := 0, majorVersion := 0, constantPool := #[], accessFlags := 0, thisClass := 0, superClass := 0, interfaces := #[], fields := #[], methods := #[], attributes := #[] }
def ys6_forwarder : Method := ((layoutMethods ys6_D).bind (·[1]?)).getD default
theorem ys6_file_is : ys6_sg.file "DimensionLines" = some ys6_D := by
  have h : (ys6_sg.file "DimensionLines").isSome = true := by decide +kernel
  obtain ⟨x, hx⟩ := Option.isSome_iff_exists.mp h
  simp [ys6_D, hx]
theorem ys6_second_is : ∀ ms, layoutMethods ys6_D = some ms → ms[1]? = some ys6_forwarder := by
  intro ms hms
  have h : ((layoutMethods ys6_D).bind (·[1]?)).isSome = true := by decide +kernel
  obtain ⟨x, hx⟩ := Option.isSome_iff_exists.mp h
  have hf : ys6_forwarder = x := by simp [ys6_forwarder, hx]
  rw [hms] at hx
  rw [hf]
  exact hx
theorem ys6_f_code : (ys6_forwarder.code.map fun c => (c.code.data, c.maxLocals)) = some (y_fwdB.data, 2) := by decide +kernel
theorem ys6_f_flags : (ys6_forwarder.accessFlags, ys6_forwarder.name, ys6_forwarder.sig.returnType) = (0x0001, "of", (some .int : Option FieldType)) := by decide +kernel
theorem ys6_eM : ys6_D.constantPool[20]? = some (.methodref 16 19) ∧ ys6_D.constantPool.className? 16 = some "DimensionLines" ∧ ys6_D.constantPool.nameAndType? 19 = some ("lambda$chain$1", "(LDimensionLines$Dimension;)I") := by decide +kernel
theorem ys6_eC : ys6_D.constantPool[16]? = some (.class_ 15) ∧ ys6_D.constantPool.string? 15 = some "DimensionLines" ∧ 16 ≠ ys6_D.thisClass := by decide +kernel
theorem ys6_eK0 : ys6_D.constantPool[14]? = some (.class_ 13) ∧ ys6_D.constantPool.string? 13 = some "DimensionLines$Dimension" ∧ 14 ≠ ys6_D.thisClass := by decide +kernel
theorem ys6_made : yLf ys6_sg yX0_lambda_chain_1 "DimensionLines$Dimension" := by
  intro vm d c cT dk hd hname h hK0
  obtain ⟨dk', k, ok, tk, file, cf, object, iface, toy, lay, methods, target, found, hd', hk, hfile, hcf, hobj, -, hok, hlay, hms, ht, htk, hg, -, hrec, -, -, -, hitf, hpool, hmeth, hfields, -, hres, -⟩ := Lambda.isMade_spec h
  cases hd.symm.trans hd'
  have hname' : dk.name = "DimensionLines" := hname
  rw [hname', ys6_file_is] at hcf
  cases hcf
  obtain ⟨b, hb, hsame⟩ := hmeth 1 ys6_forwarder (ys6_second_is methods hms)
  simp only [Lambda.sameMethod, Bool.and_eq_true, decide_eq_true_eq] at hsame
  obtain ⟨⟨hn, -, hsig, hfl⟩, hcode⟩ := hsame
  have fc := ys6_f_code
  have ff := ys6_f_flags
  simp only [Prod.mk.injEq] at ff
  cases hfc : ys6_forwarder.code with
  | none => rw [hfc] at fc; cases fc
  | some x =>
    cases hbc : b.code with
    | none => simp [hfc, hbc] at hcode
    | some y =>
      simp only [hfc, hbc, Bool.and_eq_true, decide_eq_true_eq] at hcode
      simp only [hfc, Option.map_some, Option.some.injEq, Prod.mk.injEq] at fc
      refine ⟨k, tk, file, b, y, toy, target, hk, by rw [hrec.1, hname']; decide, hfile, by rw [hpool.2.1]; exact ys6_eM.1, by rw [hpool.2.1]; exact ys6_eM.2.2, by simp [Vm.method?, hk, hb], hbc, ?_, by rw [← hcode.1.1.1.1.2.1]; exact fc.2, ?_, by rw [← hfl]; exact ff.1, by rw [← hsig]; exact ff.2.2, ht, htk, hg,
        ⟨k, hk, hres 20 _ (Lambda.resolvedOf_method ys6_eM.1 ys6_eM.2.1 ht htk ys6_eM.2.2 hg)⟩, ⟨k, hk, hres 16 _ (Lambda.resolvedOf_class ys6_eC.1 ys6_eC.2.2 ys6_eC.2.1 ht)⟩, ⟨k, hk, hres 14 _ (Lambda.resolvedOf_class ys6_eK0.1 ys6_eK0.2.2 ys6_eK0.2.1 hK0)⟩⟩
      · rw [← hcode.1.1.1.1.2.2]
        exact ByteArray.ext fc.1
      · simp [Method.locks, Method.isSynchronized, ← hfl, ff.1, hasFlag, Acc.synchronized]
theorem ys6_shape : ys6_sg.iface = "DimensionLines$Rank" ∧ ys6_sg.name = "of" ∧ ys6_sg.sam.toString = "(Ljava/lang/Object;)I" ∧ ys6_sg.captured = [] := by decide +kernel

def ys7_sg : Lambda.Shape := y_sh siteWord_1_4
def ys7_D : ClassFile := (ys7_sg.file "DimensionLines").getD { minorVersion := 0, majorVersion := 0, constantPool := #[], accessFlags := 0, thisClass := 0, superClass := 0, interfaces := #[], fields := #[], methods := #[], attributes := #[] }
def ys7_forwarder : Method := ((layoutMethods ys7_D).bind (·[1]?)).getD default
theorem ys7_file_is : ys7_sg.file "DimensionLines" = some ys7_D := by
  have h : (ys7_sg.file "DimensionLines").isSome = true := by decide +kernel
  obtain ⟨x, hx⟩ := Option.isSome_iff_exists.mp h
  simp [ys7_D, hx]
theorem ys7_second_is : ∀ ms, layoutMethods ys7_D = some ms → ms[1]? = some ys7_forwarder := by
  intro ms hms
  have h : ((layoutMethods ys7_D).bind (·[1]?)).isSome = true := by decide +kernel
  obtain ⟨x, hx⟩ := Option.isSome_iff_exists.mp h
  have hf : ys7_forwarder = x := by simp [ys7_forwarder, hx]
  rw [hms] at hx
  rw [hf]
  exact hx
theorem ys7_f_code : (ys7_forwarder.code.map fun c => (c.code.data, c.maxLocals)) = some (y_fwdB.data, 2) := by decide +kernel
theorem ys7_f_flags : (ys7_forwarder.accessFlags, ys7_forwarder.name, ys7_forwarder.sig.returnType) = (0x0001, "of", (some .int : Option FieldType)) := by decide +kernel
theorem ys7_eM : ys7_D.constantPool[20]? = some (.methodref 16 19) ∧ ys7_D.constantPool.className? 16 = some "DimensionLines" ∧ ys7_D.constantPool.nameAndType? 19 = some ("lambda$chain$2", "(LDimensionLines$Dimension;)I") := by decide +kernel
theorem ys7_eC : ys7_D.constantPool[16]? = some (.class_ 15) ∧ ys7_D.constantPool.string? 15 = some "DimensionLines" ∧ 16 ≠ ys7_D.thisClass := by decide +kernel
theorem ys7_eK0 : ys7_D.constantPool[14]? = some (.class_ 13) ∧ ys7_D.constantPool.string? 13 = some "DimensionLines$Dimension" ∧ 14 ≠ ys7_D.thisClass := by decide +kernel
theorem ys7_made : yLf ys7_sg yX0_lambda_chain_2 "DimensionLines$Dimension" := by
  intro vm d c cT dk hd hname h hK0
  obtain ⟨dk', k, ok, tk, file, cf, object, iface, toy, lay, methods, target, found, hd', hk, hfile, hcf, hobj, -, hok, hlay, hms, ht, htk, hg, -, hrec, -, -, -, hitf, hpool, hmeth, hfields, -, hres, -⟩ := Lambda.isMade_spec h
  cases hd.symm.trans hd'
  have hname' : dk.name = "DimensionLines" := hname
  rw [hname', ys7_file_is] at hcf
  cases hcf
  obtain ⟨b, hb, hsame⟩ := hmeth 1 ys7_forwarder (ys7_second_is methods hms)
  simp only [Lambda.sameMethod, Bool.and_eq_true, decide_eq_true_eq] at hsame
  obtain ⟨⟨hn, -, hsig, hfl⟩, hcode⟩ := hsame
  have fc := ys7_f_code
  have ff := ys7_f_flags
  simp only [Prod.mk.injEq] at ff
  cases hfc : ys7_forwarder.code with
  | none => rw [hfc] at fc; cases fc
  | some x =>
    cases hbc : b.code with
    | none => simp [hfc, hbc] at hcode
    | some y =>
      simp only [hfc, hbc, Bool.and_eq_true, decide_eq_true_eq] at hcode
      simp only [hfc, Option.map_some, Option.some.injEq, Prod.mk.injEq] at fc
      refine ⟨k, tk, file, b, y, toy, target, hk, by rw [hrec.1, hname']; decide, hfile, by rw [hpool.2.1]; exact ys7_eM.1, by rw [hpool.2.1]; exact ys7_eM.2.2, by simp [Vm.method?, hk, hb], hbc, ?_, by rw [← hcode.1.1.1.1.2.1]; exact fc.2, ?_, by rw [← hfl]; exact ff.1, by rw [← hsig]; exact ff.2.2, ht, htk, hg,
        ⟨k, hk, hres 20 _ (Lambda.resolvedOf_method ys7_eM.1 ys7_eM.2.1 ht htk ys7_eM.2.2 hg)⟩, ⟨k, hk, hres 16 _ (Lambda.resolvedOf_class ys7_eC.1 ys7_eC.2.2 ys7_eC.2.1 ht)⟩, ⟨k, hk, hres 14 _ (Lambda.resolvedOf_class ys7_eK0.1 ys7_eK0.2.2 ys7_eK0.2.1 hK0)⟩⟩
      · rw [← hcode.1.1.1.1.2.2]
        exact ByteArray.ext fc.1
      · simp [Method.locks, Method.isSynchronized, ← hfl, ff.1, hasFlag, Acc.synchronized]
theorem ys7_shape : ys7_sg.iface = "DimensionLines$Rank" ∧ ys7_sg.name = "of" ∧ ys7_sg.sam.toString = "(Ljava/lang/Object;)I" ∧ ys7_sg.captured = [] := by decide +kernel

def ys8_sg : Lambda.Shape := y_sh siteWord_1_5
def ys8_D : ClassFile := (ys8_sg.file "DimensionLines").getD { minorVersion := 0, majorVersion := 0, constantPool := #[], accessFlags := 0, thisClass := 0, superClass := 0, interfaces := #[], fields := #[], methods := #[], attributes := #[] }
def ys8_forwarder : Method := ((layoutMethods ys8_D).bind (·[1]?)).getD default
theorem ys8_file_is : ys8_sg.file "DimensionLines" = some ys8_D := by
  have h : (ys8_sg.file "DimensionLines").isSome = true := by decide +kernel
  obtain ⟨x, hx⟩ := Option.isSome_iff_exists.mp h
  simp [ys8_D, hx]
theorem ys8_second_is : ∀ ms, layoutMethods ys8_D = some ms → ms[1]? = some ys8_forwarder := by
  intro ms hms
  have h : ((layoutMethods ys8_D).bind (·[1]?)).isSome = true := by decide +kernel
  obtain ⟨x, hx⟩ := Option.isSome_iff_exists.mp h
  have hf : ys8_forwarder = x := by simp [ys8_forwarder, hx]
  rw [hms] at hx
  rw [hf]
  exact hx
theorem ys8_f_code : (ys8_forwarder.code.map fun c => (c.code.data, c.maxLocals)) = some (y_fwdB.data, 2) := by decide +kernel
theorem ys8_f_flags : (ys8_forwarder.accessFlags, ys8_forwarder.name, ys8_forwarder.sig.returnType) = (0x0001, "of", (some .int : Option FieldType)) := by decide +kernel
theorem ys8_eM : ys8_D.constantPool[20]? = some (.methodref 16 19) ∧ ys8_D.constantPool.className? 16 = some "DimensionLines" ∧ ys8_D.constantPool.nameAndType? 19 = some ("lambda$chain$3", "(LDimensionLines$Dimension;)I") := by decide +kernel
theorem ys8_eC : ys8_D.constantPool[16]? = some (.class_ 15) ∧ ys8_D.constantPool.string? 15 = some "DimensionLines" ∧ 16 ≠ ys8_D.thisClass := by decide +kernel
theorem ys8_eK0 : ys8_D.constantPool[14]? = some (.class_ 13) ∧ ys8_D.constantPool.string? 13 = some "DimensionLines$Dimension" ∧ 14 ≠ ys8_D.thisClass := by decide +kernel
theorem ys8_made : yLf ys8_sg yX0_lambda_chain_3 "DimensionLines$Dimension" := by
  intro vm d c cT dk hd hname h hK0
  obtain ⟨dk', k, ok, tk, file, cf, object, iface, toy, lay, methods, target, found, hd', hk, hfile, hcf, hobj, -, hok, hlay, hms, ht, htk, hg, -, hrec, -, -, -, hitf, hpool, hmeth, hfields, -, hres, -⟩ := Lambda.isMade_spec h
  cases hd.symm.trans hd'
  have hname' : dk.name = "DimensionLines" := hname
  rw [hname', ys8_file_is] at hcf
  cases hcf
  obtain ⟨b, hb, hsame⟩ := hmeth 1 ys8_forwarder (ys8_second_is methods hms)
  simp only [Lambda.sameMethod, Bool.and_eq_true, decide_eq_true_eq] at hsame
  obtain ⟨⟨hn, -, hsig, hfl⟩, hcode⟩ := hsame
  have fc := ys8_f_code
  have ff := ys8_f_flags
  simp only [Prod.mk.injEq] at ff
  cases hfc : ys8_forwarder.code with
  | none => rw [hfc] at fc; cases fc
  | some x =>
    cases hbc : b.code with
    | none => simp [hfc, hbc] at hcode
    | some y =>
      simp only [hfc, hbc, Bool.and_eq_true, decide_eq_true_eq] at hcode
      simp only [hfc, Option.map_some, Option.some.injEq, Prod.mk.injEq] at fc
      refine ⟨k, tk, file, b, y, toy, target, hk, by rw [hrec.1, hname']; decide, hfile, by rw [hpool.2.1]; exact ys8_eM.1, by rw [hpool.2.1]; exact ys8_eM.2.2, by simp [Vm.method?, hk, hb], hbc, ?_, by rw [← hcode.1.1.1.1.2.1]; exact fc.2, ?_, by rw [← hfl]; exact ff.1, by rw [← hsig]; exact ff.2.2, ht, htk, hg,
        ⟨k, hk, hres 20 _ (Lambda.resolvedOf_method ys8_eM.1 ys8_eM.2.1 ht htk ys8_eM.2.2 hg)⟩, ⟨k, hk, hres 16 _ (Lambda.resolvedOf_class ys8_eC.1 ys8_eC.2.2 ys8_eC.2.1 ht)⟩, ⟨k, hk, hres 14 _ (Lambda.resolvedOf_class ys8_eK0.1 ys8_eK0.2.2 ys8_eK0.2.1 hK0)⟩⟩
      · rw [← hcode.1.1.1.1.2.2]
        exact ByteArray.ext fc.1
      · simp [Method.locks, Method.isSynchronized, ← hfl, ff.1, hasFlag, Acc.synchronized]
theorem ys8_shape : ys8_sg.iface = "DimensionLines$Rank" ∧ ys8_sg.name = "of" ∧ ys8_sg.sam.toString = "(Ljava/lang/Object;)I" ∧ ys8_sg.captured = [] := by decide +kernel


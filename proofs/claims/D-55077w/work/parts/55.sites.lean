/-! The fifteen call sites of lambdas: shapes out of the Statement, files and forwarders; printed by tools/gen_lam.py -/
set_option maxRecDepth 100000
/-! site 1: lambda$gardenersOn$0 -/
def sg_1 : Jvm.Lambda.Shape := ({ iface := "MossLawn$Chosen", name := "is", sam := ({ parameters := [Jvm.ClassFile.FieldType.int], returnType := (Option.some Jvm.ClassFile.FieldType.boolean) } : Jvm.ClassFile.MethodDescriptor), captured := [(Jvm.ClassFile.FieldType.object "MossLawn"), Jvm.ClassFile.FieldType.int], kind := 5, implClass := "MossLawn", implName := "lambda$gardenersOn$0", implDesc := ({ parameters := [Jvm.ClassFile.FieldType.int, Jvm.ClassFile.FieldType.int], returnType := (Option.some Jvm.ClassFile.FieldType.boolean) } : Jvm.ClassFile.MethodDescriptor), implItf := false, inst := ({ parameters := [Jvm.ClassFile.FieldType.int], returnType := (Option.some Jvm.ClassFile.FieldType.boolean) } : Jvm.ClassFile.MethodDescriptor) } : Jvm.Lambda.Shape)
def sx_1 : MethodName := ⟨"MossLawn", "gardenersOn", "(I)I"⟩
theorem sq_1 : Cond.lambdaSite sx_1 9 184 sg_1 ∈ flatC (Jvm.Cond.and given_1 narrow_1) := by decide +kernel
def sD_1 : Jvm.ClassFile.ClassFile := (sg_1.file "MossLawn").getD { minorVersion := 0, majorVersion := 0, constantPool := #[], accessFlags := 0, thisClass := 0, superClass := 0, interfaces := #[], fields := #[], methods := #[], attributes := #[] }
def sF_1 : Method := ((layoutMethods sD_1).bind (·[1]?)).getD default
def sL_1 : Array Field × Array Jvm.ClassFile.FieldType × Array Jvm.ClassFile.FieldType := (layoutFields sD_1 0).getD (#[], #[], #[])
def sc_1 : ByteArray := ⟨#[0x2a, 0xb4, 0x00, 0x11, 0x2a, 0xb4, 0x00, 0x13, 0x1b, 0xb6, 0x00, 0x1b, 0xac]⟩
theorem sfile_1 : sg_1.file "MossLawn" = some sD_1 := by
  have h : (sg_1.file "MossLawn").isSome = true := by decide +kernel
  obtain ⟨x, hx⟩ := Option.isSome_iff_exists.mp h
  simp [sD_1, hx]
theorem ssec_1 : ∀ ms, layoutMethods sD_1 = some ms → ms[1]? = some sF_1 := by
  intro ms hms
  have h : ((layoutMethods sD_1).bind (·[1]?)).isSome = true := by decide +kernel
  obtain ⟨x, hx⟩ := Option.isSome_iff_exists.mp h
  have hf : sF_1 = x := by simp [sF_1, hx]
  rw [hms] at hx
  rw [hf]
  exact hx
theorem slay_1 : layoutFields sD_1 0 = some sL_1 := by
  have h : (layoutFields sD_1 0).isSome = true := by decide +kernel
  obtain ⟨x, hx⟩ := Option.isSome_iff_exists.mp h
  simp [sL_1, hx]
theorem scode_1 : (sF_1.code.map fun c => (c.code.data, c.maxLocals)) = some (sc_1.data, 2) := by decide +kernel
theorem sflag_1 : (sF_1.accessFlags, sF_1.sig.returnType) = (1, sg_1.sam.returnType) := by decide +kernel
theorem sown_1 : sL_1.2.1 = #[(.object "MossLawn"), .int] := by decide +kernel
theorem scap_1 : sg_1.captured ≠ [] := by decide
theorem sis_1 {s0 : State} {b0 : Addr} (h0 : mo_S0 s0 b0) : ∀ vm, s0.WarmedH vm → la_Is sg_1 sD_1 sL_1.1 sL_1.2.1 sc_1 2 vm (laK s0 sx_1 9 184 sg_1) := fun vm hW => by
  obtain ⟨m0, dk, h1, h2, h3⟩ := la_later h0 sq_1 scap_1 rfl hW
  exact la_is sfile_1 ssec_1 slay_1 scode_1 sflag_1 rfl rfl h1 h2 h3 (la_O h0 hW)
theorem sf_1_0 : sD_1.constantPool[17]? = some (.fieldref 2 16) ∧ sD_1.constantPool.nameAndType? 16 = some ("arg$1", "LMossLawn;") ∧ sL_1.1.findIdx? (·.name == "arg$1") = some 0 ∧ (sL_1.1[0]?).map (fun f => (f.isStatic, f.slot)) = some (false, 0) := by decide +kernel
theorem sf_1_1 : sD_1.constantPool[19]? = some (.fieldref 2 18) ∧ sD_1.constantPool.nameAndType? 18 = some ("arg$2", "I") ∧ sL_1.1.findIdx? (·.name == "arg$2") = some 1 ∧ (sL_1.1[1]?).map (fun f => (f.isStatic, f.slot)) = some (false, 1) := by decide +kernel
theorem sm_1 : sD_1.constantPool[27]? = some (.methodref 23 26) ∧ sD_1.constantPool.className? 23 = some "MossLawn" ∧ sD_1.constantPool.nameAndType? 26 = some ("lambda$gardenersOn$0", "(II)Z") ∧ sD_1.constantPool[23]? = some (.class_ 22) ∧ sD_1.constantPool.string? 22 = some "MossLawn" ∧ 23 ≠ sD_1.thisClass ∧ sg_1.implName = "lambda$gardenersOn$0" ∧ sg_1.implDesc.toString = "(II)Z" := by decide +kernel
theorem sd_1_0 : decode sc_1 0 = .ok (.aload_n 0, 1) := by decide +kernel
theorem sd_1_1 : decode sc_1 1 = .ok (.getfield 17, 3) := by decide +kernel
theorem sd_1_4 : decode sc_1 4 = .ok (.aload_n 0, 1) := by decide +kernel
theorem sd_1_5 : decode sc_1 5 = .ok (.getfield 19, 3) := by decide +kernel
theorem sd_1_8 : decode sc_1 8 = .ok (.iload_n 1, 1) := by decide +kernel
theorem sd_1_9 : decode sc_1 9 = .ok (.invokevirtual 27, 3) := by decide +kernel
theorem sd_1_12 : decode sc_1 12 = .ok (.ireturn, 1) := by decide +kernel
/-! site 2: lambda$molesOn$1 -/
def sg_2 : Jvm.Lambda.Shape := ({ iface := "MossLawn$Chosen", name := "is", sam := ({ parameters := [Jvm.ClassFile.FieldType.int], returnType := (Option.some Jvm.ClassFile.FieldType.boolean) } : Jvm.ClassFile.MethodDescriptor), captured := [(Jvm.ClassFile.FieldType.object "MossLawn"), Jvm.ClassFile.FieldType.int], kind := 5, implClass := "MossLawn", implName := "lambda$molesOn$1", implDesc := ({ parameters := [Jvm.ClassFile.FieldType.int, Jvm.ClassFile.FieldType.int], returnType := (Option.some Jvm.ClassFile.FieldType.boolean) } : Jvm.ClassFile.MethodDescriptor), implItf := false, inst := ({ parameters := [Jvm.ClassFile.FieldType.int], returnType := (Option.some Jvm.ClassFile.FieldType.boolean) } : Jvm.ClassFile.MethodDescriptor) } : Jvm.Lambda.Shape)
def sx_2 : MethodName := ⟨"MossLawn", "molesOn", "(I)I"⟩
theorem sq_2 : Cond.lambdaSite sx_2 9 194 sg_2 ∈ flatC (Jvm.Cond.and given_1 narrow_1) := by decide +kernel
def sD_2 : Jvm.ClassFile.ClassFile := (sg_2.file "MossLawn").getD { minorVersion := 0, majorVersion := 0, constantPool := #[], accessFlags := 0, thisClass := 0, superClass := 0, interfaces := #[], fields := #[], methods := #[], attributes := #[] }
def sF_2 : Method := ((layoutMethods sD_2).bind (·[1]?)).getD default
def sL_2 : Array Field × Array Jvm.ClassFile.FieldType × Array Jvm.ClassFile.FieldType := (layoutFields sD_2 0).getD (#[], #[], #[])
def sc_2 : ByteArray := ⟨#[0x2a, 0xb4, 0x00, 0x11, 0x2a, 0xb4, 0x00, 0x13, 0x1b, 0xb6, 0x00, 0x1b, 0xac]⟩
theorem sfile_2 : sg_2.file "MossLawn" = some sD_2 := by
  have h : (sg_2.file "MossLawn").isSome = true := by decide +kernel
  obtain ⟨x, hx⟩ := Option.isSome_iff_exists.mp h
  simp [sD_2, hx]
theorem ssec_2 : ∀ ms, layoutMethods sD_2 = some ms → ms[1]? = some sF_2 := by
  intro ms hms
  have h : ((layoutMethods sD_2).bind (·[1]?)).isSome = true := by decide +kernel
  obtain ⟨x, hx⟩ := Option.isSome_iff_exists.mp h
  have hf : sF_2 = x := by simp [sF_2, hx]
  rw [hms] at hx
  rw [hf]
  exact hx
theorem slay_2 : layoutFields sD_2 0 = some sL_2 := by
  have h : (layoutFields sD_2 0).isSome = true := by decide +kernel
  obtain ⟨x, hx⟩ := Option.isSome_iff_exists.mp h
  simp [sL_2, hx]
theorem scode_2 : (sF_2.code.map fun c => (c.code.data, c.maxLocals)) = some (sc_2.data, 2) := by decide +kernel
theorem sflag_2 : (sF_2.accessFlags, sF_2.sig.returnType) = (1, sg_2.sam.returnType) := by decide +kernel
theorem sown_2 : sL_2.2.1 = #[(.object "MossLawn"), .int] := by decide +kernel
theorem scap_2 : sg_2.captured ≠ [] := by decide
theorem sis_2 {s0 : State} {b0 : Addr} (h0 : mo_S0 s0 b0) : ∀ vm, s0.WarmedH vm → la_Is sg_2 sD_2 sL_2.1 sL_2.2.1 sc_2 2 vm (laK s0 sx_2 9 194 sg_2) := fun vm hW => by
  obtain ⟨m0, dk, h1, h2, h3⟩ := la_later h0 sq_2 scap_2 rfl hW
  exact la_is sfile_2 ssec_2 slay_2 scode_2 sflag_2 rfl rfl h1 h2 h3 (la_O h0 hW)
theorem sf_2_0 : sD_2.constantPool[17]? = some (.fieldref 2 16) ∧ sD_2.constantPool.nameAndType? 16 = some ("arg$1", "LMossLawn;") ∧ sL_2.1.findIdx? (·.name == "arg$1") = some 0 ∧ (sL_2.1[0]?).map (fun f => (f.isStatic, f.slot)) = some (false, 0) := by decide +kernel
theorem sf_2_1 : sD_2.constantPool[19]? = some (.fieldref 2 18) ∧ sD_2.constantPool.nameAndType? 18 = some ("arg$2", "I") ∧ sL_2.1.findIdx? (·.name == "arg$2") = some 1 ∧ (sL_2.1[1]?).map (fun f => (f.isStatic, f.slot)) = some (false, 1) := by decide +kernel
theorem sm_2 : sD_2.constantPool[27]? = some (.methodref 23 26) ∧ sD_2.constantPool.className? 23 = some "MossLawn" ∧ sD_2.constantPool.nameAndType? 26 = some ("lambda$molesOn$1", "(II)Z") ∧ sD_2.constantPool[23]? = some (.class_ 22) ∧ sD_2.constantPool.string? 22 = some "MossLawn" ∧ 23 ≠ sD_2.thisClass ∧ sg_2.implName = "lambda$molesOn$1" ∧ sg_2.implDesc.toString = "(II)Z" := by decide +kernel
theorem sd_2_0 : decode sc_2 0 = .ok (.aload_n 0, 1) := by decide +kernel
theorem sd_2_1 : decode sc_2 1 = .ok (.getfield 17, 3) := by decide +kernel
theorem sd_2_4 : decode sc_2 4 = .ok (.aload_n 0, 1) := by decide +kernel
theorem sd_2_5 : decode sc_2 5 = .ok (.getfield 19, 3) := by decide +kernel
theorem sd_2_8 : decode sc_2 8 = .ok (.iload_n 1, 1) := by decide +kernel
theorem sd_2_9 : decode sc_2 9 = .ok (.invokevirtual 27, 3) := by decide +kernel
theorem sd_2_12 : decode sc_2 12 = .ok (.ireturn, 1) := by decide +kernel
/-! site 3: lambda$walking$2 -/
def sg_3 : Jvm.Lambda.Shape := ({ iface := "MossLawn$Done", name := "done", sam := ({ parameters := [], returnType := (Option.some Jvm.ClassFile.FieldType.int) } : Jvm.ClassFile.MethodDescriptor), captured := [(Jvm.ClassFile.FieldType.object "MossLawn"), Jvm.ClassFile.FieldType.int, Jvm.ClassFile.FieldType.char], kind := 5, implClass := "MossLawn", implName := "lambda$walking$2", implDesc := ({ parameters := [Jvm.ClassFile.FieldType.int, Jvm.ClassFile.FieldType.char], returnType := (Option.some Jvm.ClassFile.FieldType.int) } : Jvm.ClassFile.MethodDescriptor), implItf := false, inst := ({ parameters := [], returnType := (Option.some Jvm.ClassFile.FieldType.int) } : Jvm.ClassFile.MethodDescriptor) } : Jvm.Lambda.Shape)
def sx_3 : MethodName := ⟨"MossLawn", "walking", "()LMossLawn$Done;"⟩
theorem sq_3 : Cond.lambdaSite sx_3 13 447 sg_3 ∈ flatC (Jvm.Cond.and given_1 narrow_1) := by decide +kernel
def sD_3 : Jvm.ClassFile.ClassFile := (sg_3.file "MossLawn").getD { minorVersion := 0, majorVersion := 0, constantPool := #[], accessFlags := 0, thisClass := 0, superClass := 0, interfaces := #[], fields := #[], methods := #[], attributes := #[] }
def sF_3 : Method := ((layoutMethods sD_3).bind (·[1]?)).getD default
def sL_3 : Array Field × Array Jvm.ClassFile.FieldType × Array Jvm.ClassFile.FieldType := (layoutFields sD_3 0).getD (#[], #[], #[])
def sc_3 : ByteArray := ⟨#[0x2a, 0xb4, 0x00, 0x13, 0x2a, 0xb4, 0x00, 0x15, 0x2a, 0xb4, 0x00, 0x17, 0xb6, 0x00, 0x1f, 0xac]⟩
theorem sfile_3 : sg_3.file "MossLawn" = some sD_3 := by
  have h : (sg_3.file "MossLawn").isSome = true := by decide +kernel
  obtain ⟨x, hx⟩ := Option.isSome_iff_exists.mp h
  simp [sD_3, hx]
theorem ssec_3 : ∀ ms, layoutMethods sD_3 = some ms → ms[1]? = some sF_3 := by
  intro ms hms
  have h : ((layoutMethods sD_3).bind (·[1]?)).isSome = true := by decide +kernel
  obtain ⟨x, hx⟩ := Option.isSome_iff_exists.mp h
  have hf : sF_3 = x := by simp [sF_3, hx]
  rw [hms] at hx
  rw [hf]
  exact hx
theorem slay_3 : layoutFields sD_3 0 = some sL_3 := by
  have h : (layoutFields sD_3 0).isSome = true := by decide +kernel
  obtain ⟨x, hx⟩ := Option.isSome_iff_exists.mp h
  simp [sL_3, hx]
theorem scode_3 : (sF_3.code.map fun c => (c.code.data, c.maxLocals)) = some (sc_3.data, 1) := by decide +kernel
theorem sflag_3 : (sF_3.accessFlags, sF_3.sig.returnType) = (1, sg_3.sam.returnType) := by decide +kernel
theorem sown_3 : sL_3.2.1 = #[(.object "MossLawn"), .int, .char] := by decide +kernel
theorem scap_3 : sg_3.captured ≠ [] := by decide
theorem sis_3 {s0 : State} {b0 : Addr} (h0 : mo_S0 s0 b0) : ∀ vm, s0.WarmedH vm → la_Is sg_3 sD_3 sL_3.1 sL_3.2.1 sc_3 1 vm (laK s0 sx_3 13 447 sg_3) := fun vm hW => by
  obtain ⟨m0, dk, h1, h2, h3⟩ := la_later h0 sq_3 scap_3 rfl hW
  exact la_is sfile_3 ssec_3 slay_3 scode_3 sflag_3 rfl rfl h1 h2 h3 (la_O h0 hW)
theorem sf_3_0 : sD_3.constantPool[19]? = some (.fieldref 2 18) ∧ sD_3.constantPool.nameAndType? 18 = some ("arg$1", "LMossLawn;") ∧ sL_3.1.findIdx? (·.name == "arg$1") = some 0 ∧ (sL_3.1[0]?).map (fun f => (f.isStatic, f.slot)) = some (false, 0) := by decide +kernel
theorem sf_3_1 : sD_3.constantPool[21]? = some (.fieldref 2 20) ∧ sD_3.constantPool.nameAndType? 20 = some ("arg$2", "I") ∧ sL_3.1.findIdx? (·.name == "arg$2") = some 1 ∧ (sL_3.1[1]?).map (fun f => (f.isStatic, f.slot)) = some (false, 1) := by decide +kernel
theorem sf_3_2 : sD_3.constantPool[23]? = some (.fieldref 2 22) ∧ sD_3.constantPool.nameAndType? 22 = some ("arg$3", "C") ∧ sL_3.1.findIdx? (·.name == "arg$3") = some 2 ∧ (sL_3.1[2]?).map (fun f => (f.isStatic, f.slot)) = some (false, 2) := by decide +kernel
theorem sm_3 : sD_3.constantPool[31]? = some (.methodref 27 30) ∧ sD_3.constantPool.className? 27 = some "MossLawn" ∧ sD_3.constantPool.nameAndType? 30 = some ("lambda$walking$2", "(IC)I") ∧ sD_3.constantPool[27]? = some (.class_ 26) ∧ sD_3.constantPool.string? 26 = some "MossLawn" ∧ 27 ≠ sD_3.thisClass ∧ sg_3.implName = "lambda$walking$2" ∧ sg_3.implDesc.toString = "(IC)I" := by decide +kernel
theorem sd_3_0 : decode sc_3 0 = .ok (.aload_n 0, 1) := by decide +kernel
theorem sd_3_1 : decode sc_3 1 = .ok (.getfield 19, 3) := by decide +kernel
theorem sd_3_4 : decode sc_3 4 = .ok (.aload_n 0, 1) := by decide +kernel
theorem sd_3_5 : decode sc_3 5 = .ok (.getfield 21, 3) := by decide +kernel
theorem sd_3_8 : decode sc_3 8 = .ok (.aload_n 0, 1) := by decide +kernel
theorem sd_3_9 : decode sc_3 9 = .ok (.getfield 23, 3) := by decide +kernel
theorem sd_3_12 : decode sc_3 12 = .ok (.invokevirtual 31, 3) := by decide +kernel
theorem sd_3_15 : decode sc_3 15 = .ok (.ireturn, 1) := by decide +kernel
/-! site 4: lambda$planting$3 -/
def sg_4 : Jvm.Lambda.Shape := ({ iface := "MossLawn$Done", name := "done", sam := ({ parameters := [], returnType := (Option.some Jvm.ClassFile.FieldType.int) } : Jvm.ClassFile.MethodDescriptor), captured := [(Jvm.ClassFile.FieldType.object "MossLawn"), Jvm.ClassFile.FieldType.int, Jvm.ClassFile.FieldType.char], kind := 5, implClass := "MossLawn", implName := "lambda$planting$3", implDesc := ({ parameters := [Jvm.ClassFile.FieldType.int, Jvm.ClassFile.FieldType.char], returnType := (Option.some Jvm.ClassFile.FieldType.int) } : Jvm.ClassFile.MethodDescriptor), implItf := false, inst := ({ parameters := [], returnType := (Option.some Jvm.ClassFile.FieldType.int) } : Jvm.ClassFile.MethodDescriptor) } : Jvm.Lambda.Shape)
def sx_4 : MethodName := ⟨"MossLawn", "planting", "()LMossLawn$Done;"⟩
theorem sq_4 : Cond.lambdaSite sx_4 13 451 sg_4 ∈ flatC (Jvm.Cond.and given_1 narrow_1) := by decide +kernel
def sD_4 : Jvm.ClassFile.ClassFile := (sg_4.file "MossLawn").getD { minorVersion := 0, majorVersion := 0, constantPool := #[], accessFlags := 0, thisClass := 0, superClass := 0, interfaces := #[], fields := #[], methods := #[], attributes := #[] }
def sF_4 : Method := ((layoutMethods sD_4).bind (·[1]?)).getD default
def sL_4 : Array Field × Array Jvm.ClassFile.FieldType × Array Jvm.ClassFile.FieldType := (layoutFields sD_4 0).getD (#[], #[], #[])
def sc_4 : ByteArray := ⟨#[0x2a, 0xb4, 0x00, 0x13, 0x2a, 0xb4, 0x00, 0x15, 0x2a, 0xb4, 0x00, 0x17, 0xb6, 0x00, 0x1f, 0xac]⟩
theorem sfile_4 : sg_4.file "MossLawn" = some sD_4 := by
  have h : (sg_4.file "MossLawn").isSome = true := by decide +kernel
  obtain ⟨x, hx⟩ := Option.isSome_iff_exists.mp h
  simp [sD_4, hx]
theorem ssec_4 : ∀ ms, layoutMethods sD_4 = some ms → ms[1]? = some sF_4 := by
  intro ms hms
  have h : ((layoutMethods sD_4).bind (·[1]?)).isSome = true := by decide +kernel
  obtain ⟨x, hx⟩ := Option.isSome_iff_exists.mp h
  have hf : sF_4 = x := by simp [sF_4, hx]
  rw [hms] at hx
  rw [hf]
  exact hx
theorem slay_4 : layoutFields sD_4 0 = some sL_4 := by
  have h : (layoutFields sD_4 0).isSome = true := by decide +kernel
  obtain ⟨x, hx⟩ := Option.isSome_iff_exists.mp h
  simp [sL_4, hx]
theorem scode_4 : (sF_4.code.map fun c => (c.code.data, c.maxLocals)) = some (sc_4.data, 1) := by decide +kernel
theorem sflag_4 : (sF_4.accessFlags, sF_4.sig.returnType) = (1, sg_4.sam.returnType) := by decide +kernel
theorem sown_4 : sL_4.2.1 = #[(.object "MossLawn"), .int, .char] := by decide +kernel
theorem scap_4 : sg_4.captured ≠ [] := by decide
theorem sis_4 {s0 : State} {b0 : Addr} (h0 : mo_S0 s0 b0) : ∀ vm, s0.WarmedH vm → la_Is sg_4 sD_4 sL_4.1 sL_4.2.1 sc_4 1 vm (laK s0 sx_4 13 451 sg_4) := fun vm hW => by
  obtain ⟨m0, dk, h1, h2, h3⟩ := la_later h0 sq_4 scap_4 rfl hW
  exact la_is sfile_4 ssec_4 slay_4 scode_4 sflag_4 rfl rfl h1 h2 h3 (la_O h0 hW)
theorem sf_4_0 : sD_4.constantPool[19]? = some (.fieldref 2 18) ∧ sD_4.constantPool.nameAndType? 18 = some ("arg$1", "LMossLawn;") ∧ sL_4.1.findIdx? (·.name == "arg$1") = some 0 ∧ (sL_4.1[0]?).map (fun f => (f.isStatic, f.slot)) = some (false, 0) := by decide +kernel
theorem sf_4_1 : sD_4.constantPool[21]? = some (.fieldref 2 20) ∧ sD_4.constantPool.nameAndType? 20 = some ("arg$2", "I") ∧ sL_4.1.findIdx? (·.name == "arg$2") = some 1 ∧ (sL_4.1[1]?).map (fun f => (f.isStatic, f.slot)) = some (false, 1) := by decide +kernel
theorem sf_4_2 : sD_4.constantPool[23]? = some (.fieldref 2 22) ∧ sD_4.constantPool.nameAndType? 22 = some ("arg$3", "C") ∧ sL_4.1.findIdx? (·.name == "arg$3") = some 2 ∧ (sL_4.1[2]?).map (fun f => (f.isStatic, f.slot)) = some (false, 2) := by decide +kernel
theorem sm_4 : sD_4.constantPool[31]? = some (.methodref 27 30) ∧ sD_4.constantPool.className? 27 = some "MossLawn" ∧ sD_4.constantPool.nameAndType? 30 = some ("lambda$planting$3", "(IC)I") ∧ sD_4.constantPool[27]? = some (.class_ 26) ∧ sD_4.constantPool.string? 26 = some "MossLawn" ∧ 27 ≠ sD_4.thisClass ∧ sg_4.implName = "lambda$planting$3" ∧ sg_4.implDesc.toString = "(IC)I" := by decide +kernel
theorem sd_4_0 : decode sc_4 0 = .ok (.aload_n 0, 1) := by decide +kernel
theorem sd_4_1 : decode sc_4 1 = .ok (.getfield 19, 3) := by decide +kernel
theorem sd_4_4 : decode sc_4 4 = .ok (.aload_n 0, 1) := by decide +kernel
theorem sd_4_5 : decode sc_4 5 = .ok (.getfield 21, 3) := by decide +kernel
theorem sd_4_8 : decode sc_4 8 = .ok (.aload_n 0, 1) := by decide +kernel
theorem sd_4_9 : decode sc_4 9 = .ok (.getfield 23, 3) := by decide +kernel
theorem sd_4_12 : decode sc_4 12 = .ok (.invokevirtual 31, 3) := by decide +kernel
theorem sd_4_15 : decode sc_4 15 = .ok (.ireturn, 1) := by decide +kernel
/-! site 5: lambda$visiting$4 -/
def sg_5 : Jvm.Lambda.Shape := ({ iface := "MossLawn$Done", name := "done", sam := ({ parameters := [], returnType := (Option.some Jvm.ClassFile.FieldType.int) } : Jvm.ClassFile.MethodDescriptor), captured := [(Jvm.ClassFile.FieldType.object "MossLawn"), Jvm.ClassFile.FieldType.int, Jvm.ClassFile.FieldType.int, Jvm.ClassFile.FieldType.int], kind := 5, implClass := "MossLawn", implName := "lambda$visiting$4", implDesc := ({ parameters := [Jvm.ClassFile.FieldType.int, Jvm.ClassFile.FieldType.int, Jvm.ClassFile.FieldType.int], returnType := (Option.some Jvm.ClassFile.FieldType.int) } : Jvm.ClassFile.MethodDescriptor), implItf := false, inst := ({ parameters := [], returnType := (Option.some Jvm.ClassFile.FieldType.int) } : Jvm.ClassFile.MethodDescriptor) } : Jvm.Lambda.Shape)
def sx_5 : MethodName := ⟨"MossLawn", "visiting", "()LMossLawn$Done;"⟩
theorem sq_5 : Cond.lambdaSite sx_5 31 459 sg_5 ∈ flatC (Jvm.Cond.and given_1 narrow_1) := by decide +kernel
def sD_5 : Jvm.ClassFile.ClassFile := (sg_5.file "MossLawn").getD { minorVersion := 0, majorVersion := 0, constantPool := #[], accessFlags := 0, thisClass := 0, superClass := 0, interfaces := #[], fields := #[], methods := #[], attributes := #[] }
def sF_5 : Method := ((layoutMethods sD_5).bind (·[1]?)).getD default
def sL_5 : Array Field × Array Jvm.ClassFile.FieldType × Array Jvm.ClassFile.FieldType := (layoutFields sD_5 0).getD (#[], #[], #[])
def sc_5 : ByteArray := ⟨#[0x2a, 0xb4, 0x00, 0x13, 0x2a, 0xb4, 0x00, 0x15, 0x2a, 0xb4, 0x00, 0x17, 0x2a, 0xb4, 0x00, 0x19, 0xb6, 0x00, 0x21, 0xac]⟩
theorem sfile_5 : sg_5.file "MossLawn" = some sD_5 := by
  have h : (sg_5.file "MossLawn").isSome = true := by decide +kernel
  obtain ⟨x, hx⟩ := Option.isSome_iff_exists.mp h
  simp [sD_5, hx]
theorem ssec_5 : ∀ ms, layoutMethods sD_5 = some ms → ms[1]? = some sF_5 := by
  intro ms hms
  have h : ((layoutMethods sD_5).bind (·[1]?)).isSome = true := by decide +kernel
  obtain ⟨x, hx⟩ := Option.isSome_iff_exists.mp h
  have hf : sF_5 = x := by simp [sF_5, hx]
  rw [hms] at hx
  rw [hf]
  exact hx
theorem slay_5 : layoutFields sD_5 0 = some sL_5 := by
  have h : (layoutFields sD_5 0).isSome = true := by decide +kernel
  obtain ⟨x, hx⟩ := Option.isSome_iff_exists.mp h
  simp [sL_5, hx]
theorem scode_5 : (sF_5.code.map fun c => (c.code.data, c.maxLocals)) = some (sc_5.data, 1) := by decide +kernel
theorem sflag_5 : (sF_5.accessFlags, sF_5.sig.returnType) = (1, sg_5.sam.returnType) := by decide +kernel
theorem sown_5 : sL_5.2.1 = #[(.object "MossLawn"), .int, .int, .int] := by decide +kernel
theorem scap_5 : sg_5.captured ≠ [] := by decide
theorem sis_5 {s0 : State} {b0 : Addr} (h0 : mo_S0 s0 b0) : ∀ vm, s0.WarmedH vm → la_Is sg_5 sD_5 sL_5.1 sL_5.2.1 sc_5 1 vm (laK s0 sx_5 31 459 sg_5) := fun vm hW => by
  obtain ⟨m0, dk, h1, h2, h3⟩ := la_later h0 sq_5 scap_5 rfl hW
  exact la_is sfile_5 ssec_5 slay_5 scode_5 sflag_5 rfl rfl h1 h2 h3 (la_O h0 hW)
theorem sf_5_0 : sD_5.constantPool[19]? = some (.fieldref 2 18) ∧ sD_5.constantPool.nameAndType? 18 = some ("arg$1", "LMossLawn;") ∧ sL_5.1.findIdx? (·.name == "arg$1") = some 0 ∧ (sL_5.1[0]?).map (fun f => (f.isStatic, f.slot)) = some (false, 0) := by decide +kernel
theorem sf_5_1 : sD_5.constantPool[21]? = some (.fieldref 2 20) ∧ sD_5.constantPool.nameAndType? 20 = some ("arg$2", "I") ∧ sL_5.1.findIdx? (·.name == "arg$2") = some 1 ∧ (sL_5.1[1]?).map (fun f => (f.isStatic, f.slot)) = some (false, 1) := by decide +kernel
theorem sf_5_2 : sD_5.constantPool[23]? = some (.fieldref 2 22) ∧ sD_5.constantPool.nameAndType? 22 = some ("arg$3", "I") ∧ sL_5.1.findIdx? (·.name == "arg$3") = some 2 ∧ (sL_5.1[2]?).map (fun f => (f.isStatic, f.slot)) = some (false, 2) := by decide +kernel
theorem sf_5_3 : sD_5.constantPool[25]? = some (.fieldref 2 24) ∧ sD_5.constantPool.nameAndType? 24 = some ("arg$4", "I") ∧ sL_5.1.findIdx? (·.name == "arg$4") = some 3 ∧ (sL_5.1[3]?).map (fun f => (f.isStatic, f.slot)) = some (false, 3) := by decide +kernel
theorem sm_5 : sD_5.constantPool[33]? = some (.methodref 29 32) ∧ sD_5.constantPool.className? 29 = some "MossLawn" ∧ sD_5.constantPool.nameAndType? 32 = some ("lambda$visiting$4", "(III)I") ∧ sD_5.constantPool[29]? = some (.class_ 28) ∧ sD_5.constantPool.string? 28 = some "MossLawn" ∧ 29 ≠ sD_5.thisClass ∧ sg_5.implName = "lambda$visiting$4" ∧ sg_5.implDesc.toString = "(III)I" := by decide +kernel
theorem sd_5_0 : decode sc_5 0 = .ok (.aload_n 0, 1) := by decide +kernel
theorem sd_5_1 : decode sc_5 1 = .ok (.getfield 19, 3) := by decide +kernel
theorem sd_5_4 : decode sc_5 4 = .ok (.aload_n 0, 1) := by decide +kernel
theorem sd_5_5 : decode sc_5 5 = .ok (.getfield 21, 3) := by decide +kernel
theorem sd_5_8 : decode sc_5 8 = .ok (.aload_n 0, 1) := by decide +kernel
theorem sd_5_9 : decode sc_5 9 = .ok (.getfield 23, 3) := by decide +kernel
theorem sd_5_12 : decode sc_5 12 = .ok (.aload_n 0, 1) := by decide +kernel
theorem sd_5_13 : decode sc_5 13 = .ok (.getfield 25, 3) := by decide +kernel
theorem sd_5_16 : decode sc_5 16 = .ok (.invokevirtual 33, 3) := by decide +kernel
theorem sd_5_19 : decode sc_5 19 = .ok (.ireturn, 1) := by decide +kernel
/-! site 6: lambda$working$5 -/
def sg_6 : Jvm.Lambda.Shape := ({ iface := "MossLawn$Done", name := "done", sam := ({ parameters := [], returnType := (Option.some Jvm.ClassFile.FieldType.int) } : Jvm.ClassFile.MethodDescriptor), captured := [(Jvm.ClassFile.FieldType.object "MossLawn"), Jvm.ClassFile.FieldType.int], kind := 5, implClass := "MossLawn", implName := "lambda$working$5", implDesc := ({ parameters := [Jvm.ClassFile.FieldType.int], returnType := (Option.some Jvm.ClassFile.FieldType.int) } : Jvm.ClassFile.MethodDescriptor), implItf := false, inst := ({ parameters := [], returnType := (Option.some Jvm.ClassFile.FieldType.int) } : Jvm.ClassFile.MethodDescriptor) } : Jvm.Lambda.Shape)
def sx_6 : MethodName := ⟨"MossLawn", "working", "(C)LMossLawn$Done;"⟩
theorem sq_6 : Cond.lambdaSite sx_6 34 462 sg_6 ∈ flatC (Jvm.Cond.and given_1 narrow_1) := by decide +kernel
def sD_6 : Jvm.ClassFile.ClassFile := (sg_6.file "MossLawn").getD { minorVersion := 0, majorVersion := 0, constantPool := #[], accessFlags := 0, thisClass := 0, superClass := 0, interfaces := #[], fields := #[], methods := #[], attributes := #[] }
def sF_6 : Method := ((layoutMethods sD_6).bind (·[1]?)).getD default
def sL_6 : Array Field × Array Jvm.ClassFile.FieldType × Array Jvm.ClassFile.FieldType := (layoutFields sD_6 0).getD (#[], #[], #[])
def sc_6 : ByteArray := ⟨#[0x2a, 0xb4, 0x00, 0x11, 0x2a, 0xb4, 0x00, 0x13, 0xb6, 0x00, 0x1b, 0xac]⟩
theorem sfile_6 : sg_6.file "MossLawn" = some sD_6 := by
  have h : (sg_6.file "MossLawn").isSome = true := by decide +kernel
  obtain ⟨x, hx⟩ := Option.isSome_iff_exists.mp h
  simp [sD_6, hx]
theorem ssec_6 : ∀ ms, layoutMethods sD_6 = some ms → ms[1]? = some sF_6 := by
  intro ms hms
  have h : ((layoutMethods sD_6).bind (·[1]?)).isSome = true := by decide +kernel
  obtain ⟨x, hx⟩ := Option.isSome_iff_exists.mp h
  have hf : sF_6 = x := by simp [sF_6, hx]
  rw [hms] at hx
  rw [hf]
  exact hx
theorem slay_6 : layoutFields sD_6 0 = some sL_6 := by
  have h : (layoutFields sD_6 0).isSome = true := by decide +kernel
  obtain ⟨x, hx⟩ := Option.isSome_iff_exists.mp h
  simp [sL_6, hx]
theorem scode_6 : (sF_6.code.map fun c => (c.code.data, c.maxLocals)) = some (sc_6.data, 1) := by decide +kernel
theorem sflag_6 : (sF_6.accessFlags, sF_6.sig.returnType) = (1, sg_6.sam.returnType) := by decide +kernel
theorem sown_6 : sL_6.2.1 = #[(.object "MossLawn"), .int] := by decide +kernel
theorem scap_6 : sg_6.captured ≠ [] := by decide
theorem sis_6 {s0 : State} {b0 : Addr} (h0 : mo_S0 s0 b0) : ∀ vm, s0.WarmedH vm → la_Is sg_6 sD_6 sL_6.1 sL_6.2.1 sc_6 1 vm (laK s0 sx_6 34 462 sg_6) := fun vm hW => by
  obtain ⟨m0, dk, h1, h2, h3⟩ := la_later h0 sq_6 scap_6 rfl hW
  exact la_is sfile_6 ssec_6 slay_6 scode_6 sflag_6 rfl rfl h1 h2 h3 (la_O h0 hW)
theorem sf_6_0 : sD_6.constantPool[17]? = some (.fieldref 2 16) ∧ sD_6.constantPool.nameAndType? 16 = some ("arg$1", "LMossLawn;") ∧ sL_6.1.findIdx? (·.name == "arg$1") = some 0 ∧ (sL_6.1[0]?).map (fun f => (f.isStatic, f.slot)) = some (false, 0) := by decide +kernel
theorem sf_6_1 : sD_6.constantPool[19]? = some (.fieldref 2 18) ∧ sD_6.constantPool.nameAndType? 18 = some ("arg$2", "I") ∧ sL_6.1.findIdx? (·.name == "arg$2") = some 1 ∧ (sL_6.1[1]?).map (fun f => (f.isStatic, f.slot)) = some (false, 1) := by decide +kernel
theorem sm_6 : sD_6.constantPool[27]? = some (.methodref 23 26) ∧ sD_6.constantPool.className? 23 = some "MossLawn" ∧ sD_6.constantPool.nameAndType? 26 = some ("lambda$working$5", "(I)I") ∧ sD_6.constantPool[23]? = some (.class_ 22) ∧ sD_6.constantPool.string? 22 = some "MossLawn" ∧ 23 ≠ sD_6.thisClass ∧ sg_6.implName = "lambda$working$5" ∧ sg_6.implDesc.toString = "(I)I" := by decide +kernel
theorem sd_6_0 : decode sc_6 0 = .ok (.aload_n 0, 1) := by decide +kernel
theorem sd_6_1 : decode sc_6 1 = .ok (.getfield 17, 3) := by decide +kernel
theorem sd_6_4 : decode sc_6 4 = .ok (.aload_n 0, 1) := by decide +kernel
theorem sd_6_5 : decode sc_6 5 = .ok (.getfield 19, 3) := by decide +kernel
theorem sd_6_8 : decode sc_6 8 = .ok (.invokevirtual 27, 3) := by decide +kernel
theorem sd_6_11 : decode sc_6 11 = .ok (.ireturn, 1) := by decide +kernel
/-! site 7: lambda$working$6 -/
def sg_7 : Jvm.Lambda.Shape := ({ iface := "MossLawn$Done", name := "done", sam := ({ parameters := [], returnType := (Option.some Jvm.ClassFile.FieldType.int) } : Jvm.ClassFile.MethodDescriptor), captured := [(Jvm.ClassFile.FieldType.object "MossLawn"), Jvm.ClassFile.FieldType.int], kind := 5, implClass := "MossLawn", implName := "lambda$working$6", implDesc := ({ parameters := [Jvm.ClassFile.FieldType.int], returnType := (Option.some Jvm.ClassFile.FieldType.int) } : Jvm.ClassFile.MethodDescriptor), implItf := false, inst := ({ parameters := [], returnType := (Option.some Jvm.ClassFile.FieldType.int) } : Jvm.ClassFile.MethodDescriptor) } : Jvm.Lambda.Shape)
def sx_7 : MethodName := ⟨"MossLawn", "working", "(C)LMossLawn$Done;"⟩
theorem sq_7 : Cond.lambdaSite sx_7 42 465 sg_7 ∈ flatC (Jvm.Cond.and given_1 narrow_1) := by decide +kernel
def sD_7 : Jvm.ClassFile.ClassFile := (sg_7.file "MossLawn").getD { minorVersion := 0, majorVersion := 0, constantPool := #[], accessFlags := 0, thisClass := 0, superClass := 0, interfaces := #[], fields := #[], methods := #[], attributes := #[] }
def sF_7 : Method := ((layoutMethods sD_7).bind (·[1]?)).getD default
def sL_7 : Array Field × Array Jvm.ClassFile.FieldType × Array Jvm.ClassFile.FieldType := (layoutFields sD_7 0).getD (#[], #[], #[])
def sc_7 : ByteArray := ⟨#[0x2a, 0xb4, 0x00, 0x11, 0x2a, 0xb4, 0x00, 0x13, 0xb6, 0x00, 0x1b, 0xac]⟩
theorem sfile_7 : sg_7.file "MossLawn" = some sD_7 := by
  have h : (sg_7.file "MossLawn").isSome = true := by decide +kernel
  obtain ⟨x, hx⟩ := Option.isSome_iff_exists.mp h
  simp [sD_7, hx]
theorem ssec_7 : ∀ ms, layoutMethods sD_7 = some ms → ms[1]? = some sF_7 := by
  intro ms hms
  have h : ((layoutMethods sD_7).bind (·[1]?)).isSome = true := by decide +kernel
  obtain ⟨x, hx⟩ := Option.isSome_iff_exists.mp h
  have hf : sF_7 = x := by simp [sF_7, hx]
  rw [hms] at hx
  rw [hf]
  exact hx
theorem slay_7 : layoutFields sD_7 0 = some sL_7 := by
  have h : (layoutFields sD_7 0).isSome = true := by decide +kernel
  obtain ⟨x, hx⟩ := Option.isSome_iff_exists.mp h
  simp [sL_7, hx]
theorem scode_7 : (sF_7.code.map fun c => (c.code.data, c.maxLocals)) = some (sc_7.data, 1) := by decide +kernel
theorem sflag_7 : (sF_7.accessFlags, sF_7.sig.returnType) = (1, sg_7.sam.returnType) := by decide +kernel
theorem sown_7 : sL_7.2.1 = #[(.object "MossLawn"), .int] := by decide +kernel
theorem scap_7 : sg_7.captured ≠ [] := by decide
theorem sis_7 {s0 : State} {b0 : Addr} (h0 : mo_S0 s0 b0) : ∀ vm, s0.WarmedH vm → la_Is sg_7 sD_7 sL_7.1 sL_7.2.1 sc_7 1 vm (laK s0 sx_7 42 465 sg_7) := fun vm hW => by
  obtain ⟨m0, dk, h1, h2, h3⟩ := la_later h0 sq_7 scap_7 rfl hW
  exact la_is sfile_7 ssec_7 slay_7 scode_7 sflag_7 rfl rfl h1 h2 h3 (la_O h0 hW)
theorem sf_7_0 : sD_7.constantPool[17]? = some (.fieldref 2 16) ∧ sD_7.constantPool.nameAndType? 16 = some ("arg$1", "LMossLawn;") ∧ sL_7.1.findIdx? (·.name == "arg$1") = some 0 ∧ (sL_7.1[0]?).map (fun f => (f.isStatic, f.slot)) = some (false, 0) := by decide +kernel
theorem sf_7_1 : sD_7.constantPool[19]? = some (.fieldref 2 18) ∧ sD_7.constantPool.nameAndType? 18 = some ("arg$2", "I") ∧ sL_7.1.findIdx? (·.name == "arg$2") = some 1 ∧ (sL_7.1[1]?).map (fun f => (f.isStatic, f.slot)) = some (false, 1) := by decide +kernel
theorem sm_7 : sD_7.constantPool[27]? = some (.methodref 23 26) ∧ sD_7.constantPool.className? 23 = some "MossLawn" ∧ sD_7.constantPool.nameAndType? 26 = some ("lambda$working$6", "(I)I") ∧ sD_7.constantPool[23]? = some (.class_ 22) ∧ sD_7.constantPool.string? 22 = some "MossLawn" ∧ 23 ≠ sD_7.thisClass ∧ sg_7.implName = "lambda$working$6" ∧ sg_7.implDesc.toString = "(I)I" := by decide +kernel
theorem sd_7_0 : decode sc_7 0 = .ok (.aload_n 0, 1) := by decide +kernel
theorem sd_7_1 : decode sc_7 1 = .ok (.getfield 17, 3) := by decide +kernel
theorem sd_7_4 : decode sc_7 4 = .ok (.aload_n 0, 1) := by decide +kernel
theorem sd_7_5 : decode sc_7 5 = .ok (.getfield 19, 3) := by decide +kernel
theorem sd_7_8 : decode sc_7 8 = .ok (.invokevirtual 27, 3) := by decide +kernel
theorem sd_7_11 : decode sc_7 11 = .ok (.ireturn, 1) := by decide +kernel
/-! site 8: lambda$working$7 -/
def sg_8 : Jvm.Lambda.Shape := ({ iface := "MossLawn$Done", name := "done", sam := ({ parameters := [], returnType := (Option.some Jvm.ClassFile.FieldType.int) } : Jvm.ClassFile.MethodDescriptor), captured := [(Jvm.ClassFile.FieldType.object "MossLawn"), Jvm.ClassFile.FieldType.int], kind := 5, implClass := "MossLawn", implName := "lambda$working$7", implDesc := ({ parameters := [Jvm.ClassFile.FieldType.int], returnType := (Option.some Jvm.ClassFile.FieldType.int) } : Jvm.ClassFile.MethodDescriptor), implItf := false, inst := ({ parameters := [], returnType := (Option.some Jvm.ClassFile.FieldType.int) } : Jvm.ClassFile.MethodDescriptor) } : Jvm.Lambda.Shape)
def sx_8 : MethodName := ⟨"MossLawn", "working", "(C)LMossLawn$Done;"⟩
theorem sq_8 : Cond.lambdaSite sx_8 50 466 sg_8 ∈ flatC (Jvm.Cond.and given_1 narrow_1) := by decide +kernel
def sD_8 : Jvm.ClassFile.ClassFile := (sg_8.file "MossLawn").getD { minorVersion := 0, majorVersion := 0, constantPool := #[], accessFlags := 0, thisClass := 0, superClass := 0, interfaces := #[], fields := #[], methods := #[], attributes := #[] }
def sF_8 : Method := ((layoutMethods sD_8).bind (·[1]?)).getD default
def sL_8 : Array Field × Array Jvm.ClassFile.FieldType × Array Jvm.ClassFile.FieldType := (layoutFields sD_8 0).getD (#[], #[], #[])
def sc_8 : ByteArray := ⟨#[0x2a, 0xb4, 0x00, 0x11, 0x2a, 0xb4, 0x00, 0x13, 0xb6, 0x00, 0x1b, 0xac]⟩
theorem sfile_8 : sg_8.file "MossLawn" = some sD_8 := by
  have h : (sg_8.file "MossLawn").isSome = true := by decide +kernel
  obtain ⟨x, hx⟩ := Option.isSome_iff_exists.mp h
  simp [sD_8, hx]
theorem ssec_8 : ∀ ms, layoutMethods sD_8 = some ms → ms[1]? = some sF_8 := by
  intro ms hms
  have h : ((layoutMethods sD_8).bind (·[1]?)).isSome = true := by decide +kernel
  obtain ⟨x, hx⟩ := Option.isSome_iff_exists.mp h
  have hf : sF_8 = x := by simp [sF_8, hx]
  rw [hms] at hx
  rw [hf]
  exact hx
theorem slay_8 : layoutFields sD_8 0 = some sL_8 := by
  have h : (layoutFields sD_8 0).isSome = true := by decide +kernel
  obtain ⟨x, hx⟩ := Option.isSome_iff_exists.mp h
  simp [sL_8, hx]
theorem scode_8 : (sF_8.code.map fun c => (c.code.data, c.maxLocals)) = some (sc_8.data, 1) := by decide +kernel
theorem sflag_8 : (sF_8.accessFlags, sF_8.sig.returnType) = (1, sg_8.sam.returnType) := by decide +kernel
theorem sown_8 : sL_8.2.1 = #[(.object "MossLawn"), .int] := by decide +kernel
theorem scap_8 : sg_8.captured ≠ [] := by decide
theorem sis_8 {s0 : State} {b0 : Addr} (h0 : mo_S0 s0 b0) : ∀ vm, s0.WarmedH vm → la_Is sg_8 sD_8 sL_8.1 sL_8.2.1 sc_8 1 vm (laK s0 sx_8 50 466 sg_8) := fun vm hW => by
  obtain ⟨m0, dk, h1, h2, h3⟩ := la_later h0 sq_8 scap_8 rfl hW
  exact la_is sfile_8 ssec_8 slay_8 scode_8 sflag_8 rfl rfl h1 h2 h3 (la_O h0 hW)
theorem sf_8_0 : sD_8.constantPool[17]? = some (.fieldref 2 16) ∧ sD_8.constantPool.nameAndType? 16 = some ("arg$1", "LMossLawn;") ∧ sL_8.1.findIdx? (·.name == "arg$1") = some 0 ∧ (sL_8.1[0]?).map (fun f => (f.isStatic, f.slot)) = some (false, 0) := by decide +kernel
theorem sf_8_1 : sD_8.constantPool[19]? = some (.fieldref 2 18) ∧ sD_8.constantPool.nameAndType? 18 = some ("arg$2", "I") ∧ sL_8.1.findIdx? (·.name == "arg$2") = some 1 ∧ (sL_8.1[1]?).map (fun f => (f.isStatic, f.slot)) = some (false, 1) := by decide +kernel
theorem sm_8 : sD_8.constantPool[27]? = some (.methodref 23 26) ∧ sD_8.constantPool.className? 23 = some "MossLawn" ∧ sD_8.constantPool.nameAndType? 26 = some ("lambda$working$7", "(I)I") ∧ sD_8.constantPool[23]? = some (.class_ 22) ∧ sD_8.constantPool.string? 22 = some "MossLawn" ∧ 23 ≠ sD_8.thisClass ∧ sg_8.implName = "lambda$working$7" ∧ sg_8.implDesc.toString = "(I)I" := by decide +kernel
theorem sd_8_0 : decode sc_8 0 = .ok (.aload_n 0, 1) := by decide +kernel
theorem sd_8_1 : decode sc_8 1 = .ok (.getfield 17, 3) := by decide +kernel
theorem sd_8_4 : decode sc_8 4 = .ok (.aload_n 0, 1) := by decide +kernel
theorem sd_8_5 : decode sc_8 5 = .ok (.getfield 19, 3) := by decide +kernel
theorem sd_8_8 : decode sc_8 8 = .ok (.invokevirtual 27, 3) := by decide +kernel
theorem sd_8_11 : decode sc_8 11 = .ok (.ireturn, 1) := by decide +kernel
/-! site 9: lambda$order$8 -/
def sg_9 : Jvm.Lambda.Shape := ({ iface := "MossLawn$Done", name := "done", sam := ({ parameters := [], returnType := (Option.some Jvm.ClassFile.FieldType.int) } : Jvm.ClassFile.MethodDescriptor), captured := [(Jvm.ClassFile.FieldType.object "MossLawn"), Jvm.ClassFile.FieldType.int], kind := 5, implClass := "MossLawn", implName := "lambda$order$8", implDesc := ({ parameters := [Jvm.ClassFile.FieldType.int], returnType := (Option.some Jvm.ClassFile.FieldType.int) } : Jvm.ClassFile.MethodDescriptor), implItf := false, inst := ({ parameters := [], returnType := (Option.some Jvm.ClassFile.FieldType.int) } : Jvm.ClassFile.MethodDescriptor) } : Jvm.Lambda.Shape)
def sx_9 : MethodName := ⟨"MossLawn", "order", "()LMossLawn$Done;"⟩
theorem sq_9 : Cond.lambdaSite sx_9 176 481 sg_9 ∈ flatC (Jvm.Cond.and given_1 narrow_1) := by decide +kernel
def sD_9 : Jvm.ClassFile.ClassFile := (sg_9.file "MossLawn").getD { minorVersion := 0, majorVersion := 0, constantPool := #[], accessFlags := 0, thisClass := 0, superClass := 0, interfaces := #[], fields := #[], methods := #[], attributes := #[] }
def sF_9 : Method := ((layoutMethods sD_9).bind (·[1]?)).getD default
def sL_9 : Array Field × Array Jvm.ClassFile.FieldType × Array Jvm.ClassFile.FieldType := (layoutFields sD_9 0).getD (#[], #[], #[])
def sc_9 : ByteArray := ⟨#[0x2a, 0xb4, 0x00, 0x11, 0x2a, 0xb4, 0x00, 0x13, 0xb6, 0x00, 0x1b, 0xac]⟩
theorem sfile_9 : sg_9.file "MossLawn" = some sD_9 := by
  have h : (sg_9.file "MossLawn").isSome = true := by decide +kernel
  obtain ⟨x, hx⟩ := Option.isSome_iff_exists.mp h
  simp [sD_9, hx]
theorem ssec_9 : ∀ ms, layoutMethods sD_9 = some ms → ms[1]? = some sF_9 := by
  intro ms hms
  have h : ((layoutMethods sD_9).bind (·[1]?)).isSome = true := by decide +kernel
  obtain ⟨x, hx⟩ := Option.isSome_iff_exists.mp h
  have hf : sF_9 = x := by simp [sF_9, hx]
  rw [hms] at hx
  rw [hf]
  exact hx
theorem slay_9 : layoutFields sD_9 0 = some sL_9 := by
  have h : (layoutFields sD_9 0).isSome = true := by decide +kernel
  obtain ⟨x, hx⟩ := Option.isSome_iff_exists.mp h
  simp [sL_9, hx]
theorem scode_9 : (sF_9.code.map fun c => (c.code.data, c.maxLocals)) = some (sc_9.data, 1) := by decide +kernel
theorem sflag_9 : (sF_9.accessFlags, sF_9.sig.returnType) = (1, sg_9.sam.returnType) := by decide +kernel
theorem sown_9 : sL_9.2.1 = #[(.object "MossLawn"), .int] := by decide +kernel
theorem scap_9 : sg_9.captured ≠ [] := by decide
theorem sis_9 {s0 : State} {b0 : Addr} (h0 : mo_S0 s0 b0) : ∀ vm, s0.WarmedH vm → la_Is sg_9 sD_9 sL_9.1 sL_9.2.1 sc_9 1 vm (laK s0 sx_9 176 481 sg_9) := fun vm hW => by
  obtain ⟨m0, dk, h1, h2, h3⟩ := la_later h0 sq_9 scap_9 rfl hW
  exact la_is sfile_9 ssec_9 slay_9 scode_9 sflag_9 rfl rfl h1 h2 h3 (la_O h0 hW)
theorem sf_9_0 : sD_9.constantPool[17]? = some (.fieldref 2 16) ∧ sD_9.constantPool.nameAndType? 16 = some ("arg$1", "LMossLawn;") ∧ sL_9.1.findIdx? (·.name == "arg$1") = some 0 ∧ (sL_9.1[0]?).map (fun f => (f.isStatic, f.slot)) = some (false, 0) := by decide +kernel
theorem sf_9_1 : sD_9.constantPool[19]? = some (.fieldref 2 18) ∧ sD_9.constantPool.nameAndType? 18 = some ("arg$2", "I") ∧ sL_9.1.findIdx? (·.name == "arg$2") = some 1 ∧ (sL_9.1[1]?).map (fun f => (f.isStatic, f.slot)) = some (false, 1) := by decide +kernel
theorem sm_9 : sD_9.constantPool[27]? = some (.methodref 23 26) ∧ sD_9.constantPool.className? 23 = some "MossLawn" ∧ sD_9.constantPool.nameAndType? 26 = some ("lambda$order$8", "(I)I") ∧ sD_9.constantPool[23]? = some (.class_ 22) ∧ sD_9.constantPool.string? 22 = some "MossLawn" ∧ 23 ≠ sD_9.thisClass ∧ sg_9.implName = "lambda$order$8" ∧ sg_9.implDesc.toString = "(I)I" := by decide +kernel
theorem sd_9_0 : decode sc_9 0 = .ok (.aload_n 0, 1) := by decide +kernel
theorem sd_9_1 : decode sc_9 1 = .ok (.getfield 17, 3) := by decide +kernel
theorem sd_9_4 : decode sc_9 4 = .ok (.aload_n 0, 1) := by decide +kernel
theorem sd_9_5 : decode sc_9 5 = .ok (.getfield 19, 3) := by decide +kernel
theorem sd_9_8 : decode sc_9 8 = .ok (.invokevirtual 27, 3) := by decide +kernel
theorem sd_9_11 : decode sc_9 11 = .ok (.ireturn, 1) := by decide +kernel
/-! site 10: lambda$order$9 -/
def sg_10 : Jvm.Lambda.Shape := ({ iface := "MossLawn$Done", name := "done", sam := ({ parameters := [], returnType := (Option.some Jvm.ClassFile.FieldType.int) } : Jvm.ClassFile.MethodDescriptor), captured := [(Jvm.ClassFile.FieldType.object "MossLawn"), Jvm.ClassFile.FieldType.int], kind := 5, implClass := "MossLawn", implName := "lambda$order$9", implDesc := ({ parameters := [Jvm.ClassFile.FieldType.int], returnType := (Option.some Jvm.ClassFile.FieldType.int) } : Jvm.ClassFile.MethodDescriptor), implItf := false, inst := ({ parameters := [], returnType := (Option.some Jvm.ClassFile.FieldType.int) } : Jvm.ClassFile.MethodDescriptor) } : Jvm.Lambda.Shape)
def sx_10 : MethodName := ⟨"MossLawn", "order", "()LMossLawn$Done;"⟩
theorem sq_10 : Cond.lambdaSite sx_10 189 482 sg_10 ∈ flatC (Jvm.Cond.and given_1 narrow_1) := by decide +kernel
def sD_10 : Jvm.ClassFile.ClassFile := (sg_10.file "MossLawn").getD { minorVersion := 0, majorVersion := 0, constantPool := #[], accessFlags := 0, thisClass := 0, superClass := 0, interfaces := #[], fields := #[], methods := #[], attributes := #[] }
def sF_10 : Method := ((layoutMethods sD_10).bind (·[1]?)).getD default
def sL_10 : Array Field × Array Jvm.ClassFile.FieldType × Array Jvm.ClassFile.FieldType := (layoutFields sD_10 0).getD (#[], #[], #[])
def sc_10 : ByteArray := ⟨#[0x2a, 0xb4, 0x00, 0x11, 0x2a, 0xb4, 0x00, 0x13, 0xb6, 0x00, 0x1b, 0xac]⟩
theorem sfile_10 : sg_10.file "MossLawn" = some sD_10 := by
  have h : (sg_10.file "MossLawn").isSome = true := by decide +kernel
  obtain ⟨x, hx⟩ := Option.isSome_iff_exists.mp h
  simp [sD_10, hx]
theorem ssec_10 : ∀ ms, layoutMethods sD_10 = some ms → ms[1]? = some sF_10 := by
  intro ms hms
  have h : ((layoutMethods sD_10).bind (·[1]?)).isSome = true := by decide +kernel
  obtain ⟨x, hx⟩ := Option.isSome_iff_exists.mp h
  have hf : sF_10 = x := by simp [sF_10, hx]
  rw [hms] at hx
  rw [hf]
  exact hx
theorem slay_10 : layoutFields sD_10 0 = some sL_10 := by
  have h : (layoutFields sD_10 0).isSome = true := by decide +kernel
  obtain ⟨x, hx⟩ := Option.isSome_iff_exists.mp h
  simp [sL_10, hx]
theorem scode_10 : (sF_10.code.map fun c => (c.code.data, c.maxLocals)) = some (sc_10.data, 1) := by decide +kernel
theorem sflag_10 : (sF_10.accessFlags, sF_10.sig.returnType) = (1, sg_10.sam.returnType) := by decide +kernel
theorem sown_10 : sL_10.2.1 = #[(.object "MossLawn"), .int] := by decide +kernel
theorem scap_10 : sg_10.captured ≠ [] := by decide
theorem sis_10 {s0 : State} {b0 : Addr} (h0 : mo_S0 s0 b0) : ∀ vm, s0.WarmedH vm → la_Is sg_10 sD_10 sL_10.1 sL_10.2.1 sc_10 1 vm (laK s0 sx_10 189 482 sg_10) := fun vm hW => by
  obtain ⟨m0, dk, h1, h2, h3⟩ := la_later h0 sq_10 scap_10 rfl hW
  exact la_is sfile_10 ssec_10 slay_10 scode_10 sflag_10 rfl rfl h1 h2 h3 (la_O h0 hW)
theorem sf_10_0 : sD_10.constantPool[17]? = some (.fieldref 2 16) ∧ sD_10.constantPool.nameAndType? 16 = some ("arg$1", "LMossLawn;") ∧ sL_10.1.findIdx? (·.name == "arg$1") = some 0 ∧ (sL_10.1[0]?).map (fun f => (f.isStatic, f.slot)) = some (false, 0) := by decide +kernel
theorem sf_10_1 : sD_10.constantPool[19]? = some (.fieldref 2 18) ∧ sD_10.constantPool.nameAndType? 18 = some ("arg$2", "I") ∧ sL_10.1.findIdx? (·.name == "arg$2") = some 1 ∧ (sL_10.1[1]?).map (fun f => (f.isStatic, f.slot)) = some (false, 1) := by decide +kernel
theorem sm_10 : sD_10.constantPool[27]? = some (.methodref 23 26) ∧ sD_10.constantPool.className? 23 = some "MossLawn" ∧ sD_10.constantPool.nameAndType? 26 = some ("lambda$order$9", "(I)I") ∧ sD_10.constantPool[23]? = some (.class_ 22) ∧ sD_10.constantPool.string? 22 = some "MossLawn" ∧ 23 ≠ sD_10.thisClass ∧ sg_10.implName = "lambda$order$9" ∧ sg_10.implDesc.toString = "(I)I" := by decide +kernel
theorem sd_10_0 : decode sc_10 0 = .ok (.aload_n 0, 1) := by decide +kernel
theorem sd_10_1 : decode sc_10 1 = .ok (.getfield 17, 3) := by decide +kernel
theorem sd_10_4 : decode sc_10 4 = .ok (.aload_n 0, 1) := by decide +kernel
theorem sd_10_5 : decode sc_10 5 = .ok (.getfield 19, 3) := by decide +kernel
theorem sd_10_8 : decode sc_10 8 = .ok (.invokevirtual 27, 3) := by decide +kernel
theorem sd_10_11 : decode sc_10 11 = .ok (.ireturn, 1) := by decide +kernel
/-! site 11: lambda$young$10 -/
def sg_11 : Jvm.Lambda.Shape := ({ iface := "MossLawn$Chosen", name := "is", sam := ({ parameters := [Jvm.ClassFile.FieldType.int], returnType := (Option.some Jvm.ClassFile.FieldType.boolean) } : Jvm.ClassFile.MethodDescriptor), captured := [(Jvm.ClassFile.FieldType.object "MossLawn")], kind := 5, implClass := "MossLawn", implName := "lambda$young$10", implDesc := ({ parameters := [Jvm.ClassFile.FieldType.int], returnType := (Option.some Jvm.ClassFile.FieldType.boolean) } : Jvm.ClassFile.MethodDescriptor), implItf := false, inst := ({ parameters := [Jvm.ClassFile.FieldType.int], returnType := (Option.some Jvm.ClassFile.FieldType.boolean) } : Jvm.ClassFile.MethodDescriptor) } : Jvm.Lambda.Shape)
def sx_11 : MethodName := ⟨"MossLawn", "young", "()I"⟩
theorem sq_11 : Cond.lambdaSite sx_11 3 537 sg_11 ∈ flatC (Jvm.Cond.and given_1 narrow_1) := by decide +kernel
def sD_11 : Jvm.ClassFile.ClassFile := (sg_11.file "MossLawn").getD { minorVersion := 0, majorVersion := 0, constantPool := #[], accessFlags := 0, thisClass := 0, superClass := 0, interfaces := #[], fields := #[], methods := #[], attributes := #[] }
def sF_11 : Method := ((layoutMethods sD_11).bind (·[1]?)).getD default
def sL_11 : Array Field × Array Jvm.ClassFile.FieldType × Array Jvm.ClassFile.FieldType := (layoutFields sD_11 0).getD (#[], #[], #[])
def sc_11 : ByteArray := ⟨#[0x2a, 0xb4, 0x00, 0x0f, 0x1b, 0xb6, 0x00, 0x16, 0xac]⟩
theorem sfile_11 : sg_11.file "MossLawn" = some sD_11 := by
  have h : (sg_11.file "MossLawn").isSome = true := by decide +kernel
  obtain ⟨x, hx⟩ := Option.isSome_iff_exists.mp h
  simp [sD_11, hx]
theorem ssec_11 : ∀ ms, layoutMethods sD_11 = some ms → ms[1]? = some sF_11 := by
  intro ms hms
  have h : ((layoutMethods sD_11).bind (·[1]?)).isSome = true := by decide +kernel
  obtain ⟨x, hx⟩ := Option.isSome_iff_exists.mp h
  have hf : sF_11 = x := by simp [sF_11, hx]
  rw [hms] at hx
  rw [hf]
  exact hx
theorem slay_11 : layoutFields sD_11 0 = some sL_11 := by
  have h : (layoutFields sD_11 0).isSome = true := by decide +kernel
  obtain ⟨x, hx⟩ := Option.isSome_iff_exists.mp h
  simp [sL_11, hx]
theorem scode_11 : (sF_11.code.map fun c => (c.code.data, c.maxLocals)) = some (sc_11.data, 2) := by decide +kernel
theorem sflag_11 : (sF_11.accessFlags, sF_11.sig.returnType) = (1, sg_11.sam.returnType) := by decide +kernel
theorem sown_11 : sL_11.2.1 = #[(.object "MossLawn")] := by decide +kernel
theorem scap_11 : sg_11.captured ≠ [] := by decide
theorem sis_11 {s0 : State} {b0 : Addr} (h0 : mo_S0 s0 b0) : ∀ vm, s0.WarmedH vm → la_Is sg_11 sD_11 sL_11.1 sL_11.2.1 sc_11 2 vm (laK s0 sx_11 3 537 sg_11) := fun vm hW => by
  obtain ⟨m0, dk, h1, h2, h3⟩ := la_later h0 sq_11 scap_11 rfl hW
  exact la_is sfile_11 ssec_11 slay_11 scode_11 sflag_11 rfl rfl h1 h2 h3 (la_O h0 hW)
theorem sf_11_0 : sD_11.constantPool[15]? = some (.fieldref 2 14) ∧ sD_11.constantPool.nameAndType? 14 = some ("arg$1", "LMossLawn;") ∧ sL_11.1.findIdx? (·.name == "arg$1") = some 0 ∧ (sL_11.1[0]?).map (fun f => (f.isStatic, f.slot)) = some (false, 0) := by decide +kernel
theorem sm_11 : sD_11.constantPool[22]? = some (.methodref 19 21) ∧ sD_11.constantPool.className? 19 = some "MossLawn" ∧ sD_11.constantPool.nameAndType? 21 = some ("lambda$young$10", "(I)Z") ∧ sD_11.constantPool[19]? = some (.class_ 18) ∧ sD_11.constantPool.string? 18 = some "MossLawn" ∧ 19 ≠ sD_11.thisClass ∧ sg_11.implName = "lambda$young$10" ∧ sg_11.implDesc.toString = "(I)Z" := by decide +kernel
theorem sd_11_0 : decode sc_11 0 = .ok (.aload_n 0, 1) := by decide +kernel
theorem sd_11_1 : decode sc_11 1 = .ok (.getfield 15, 3) := by decide +kernel
theorem sd_11_4 : decode sc_11 4 = .ok (.iload_n 1, 1) := by decide +kernel
theorem sd_11_5 : decode sc_11 5 = .ok (.invokevirtual 22, 3) := by decide +kernel
theorem sd_11_8 : decode sc_11 8 = .ok (.ireturn, 1) := by decide +kernel
/-! site 12: lambda$oldShare$11 -/
def sg_12 : Jvm.Lambda.Shape := ({ iface := "MossLawn$Chosen", name := "is", sam := ({ parameters := [Jvm.ClassFile.FieldType.int], returnType := (Option.some Jvm.ClassFile.FieldType.boolean) } : Jvm.ClassFile.MethodDescriptor), captured := [(Jvm.ClassFile.FieldType.object "MossLawn")], kind := 5, implClass := "MossLawn", implName := "lambda$oldShare$11", implDesc := ({ parameters := [Jvm.ClassFile.FieldType.int], returnType := (Option.some Jvm.ClassFile.FieldType.boolean) } : Jvm.ClassFile.MethodDescriptor), implItf := false, inst := ({ parameters := [Jvm.ClassFile.FieldType.int], returnType := (Option.some Jvm.ClassFile.FieldType.boolean) } : Jvm.ClassFile.MethodDescriptor) } : Jvm.Lambda.Shape)
def sx_12 : MethodName := ⟨"MossLawn", "oldShare", "()D"⟩
theorem sq_12 : Cond.lambdaSite sx_12 3 557 sg_12 ∈ flatC (Jvm.Cond.and given_1 narrow_1) := by decide +kernel
def sD_12 : Jvm.ClassFile.ClassFile := (sg_12.file "MossLawn").getD { minorVersion := 0, majorVersion := 0, constantPool := #[], accessFlags := 0, thisClass := 0, superClass := 0, interfaces := #[], fields := #[], methods := #[], attributes := #[] }
def sF_12 : Method := ((layoutMethods sD_12).bind (·[1]?)).getD default
def sL_12 : Array Field × Array Jvm.ClassFile.FieldType × Array Jvm.ClassFile.FieldType := (layoutFields sD_12 0).getD (#[], #[], #[])
def sc_12 : ByteArray := ⟨#[0x2a, 0xb4, 0x00, 0x0f, 0x1b, 0xb6, 0x00, 0x16, 0xac]⟩
theorem sfile_12 : sg_12.file "MossLawn" = some sD_12 := by
  have h : (sg_12.file "MossLawn").isSome = true := by decide +kernel
  obtain ⟨x, hx⟩ := Option.isSome_iff_exists.mp h
  simp [sD_12, hx]
theorem ssec_12 : ∀ ms, layoutMethods sD_12 = some ms → ms[1]? = some sF_12 := by
  intro ms hms
  have h : ((layoutMethods sD_12).bind (·[1]?)).isSome = true := by decide +kernel
  obtain ⟨x, hx⟩ := Option.isSome_iff_exists.mp h
  have hf : sF_12 = x := by simp [sF_12, hx]
  rw [hms] at hx
  rw [hf]
  exact hx
theorem slay_12 : layoutFields sD_12 0 = some sL_12 := by
  have h : (layoutFields sD_12 0).isSome = true := by decide +kernel
  obtain ⟨x, hx⟩ := Option.isSome_iff_exists.mp h
  simp [sL_12, hx]
theorem scode_12 : (sF_12.code.map fun c => (c.code.data, c.maxLocals)) = some (sc_12.data, 2) := by decide +kernel
theorem sflag_12 : (sF_12.accessFlags, sF_12.sig.returnType) = (1, sg_12.sam.returnType) := by decide +kernel
theorem sown_12 : sL_12.2.1 = #[(.object "MossLawn")] := by decide +kernel
theorem scap_12 : sg_12.captured ≠ [] := by decide
theorem sis_12 {s0 : State} {b0 : Addr} (h0 : mo_S0 s0 b0) : ∀ vm, s0.WarmedH vm → la_Is sg_12 sD_12 sL_12.1 sL_12.2.1 sc_12 2 vm (laK s0 sx_12 3 557 sg_12) := fun vm hW => by
  obtain ⟨m0, dk, h1, h2, h3⟩ := la_later h0 sq_12 scap_12 rfl hW
  exact la_is sfile_12 ssec_12 slay_12 scode_12 sflag_12 rfl rfl h1 h2 h3 (la_O h0 hW)
theorem sf_12_0 : sD_12.constantPool[15]? = some (.fieldref 2 14) ∧ sD_12.constantPool.nameAndType? 14 = some ("arg$1", "LMossLawn;") ∧ sL_12.1.findIdx? (·.name == "arg$1") = some 0 ∧ (sL_12.1[0]?).map (fun f => (f.isStatic, f.slot)) = some (false, 0) := by decide +kernel
theorem sm_12 : sD_12.constantPool[22]? = some (.methodref 19 21) ∧ sD_12.constantPool.className? 19 = some "MossLawn" ∧ sD_12.constantPool.nameAndType? 21 = some ("lambda$oldShare$11", "(I)Z") ∧ sD_12.constantPool[19]? = some (.class_ 18) ∧ sD_12.constantPool.string? 18 = some "MossLawn" ∧ 19 ≠ sD_12.thisClass ∧ sg_12.implName = "lambda$oldShare$11" ∧ sg_12.implDesc.toString = "(I)Z" := by decide +kernel
theorem sd_12_0 : decode sc_12 0 = .ok (.aload_n 0, 1) := by decide +kernel
theorem sd_12_1 : decode sc_12 1 = .ok (.getfield 15, 3) := by decide +kernel
theorem sd_12_4 : decode sc_12 4 = .ok (.iload_n 1, 1) := by decide +kernel
theorem sd_12_5 : decode sc_12 5 = .ok (.invokevirtual 22, 3) := by decide +kernel
theorem sd_12_8 : decode sc_12 8 = .ok (.ireturn, 1) := by decide +kernel
/-! site 13: lambda$caughtMany$12 -/
def sg_13 : Jvm.Lambda.Shape := ({ iface := "MossLawn$Counted", name := "of", sam := ({ parameters := [Jvm.ClassFile.FieldType.int], returnType := (Option.some Jvm.ClassFile.FieldType.int) } : Jvm.ClassFile.MethodDescriptor), captured := [(Jvm.ClassFile.FieldType.object "MossLawn")], kind := 5, implClass := "MossLawn", implName := "lambda$caughtMany$12", implDesc := ({ parameters := [Jvm.ClassFile.FieldType.int], returnType := (Option.some Jvm.ClassFile.FieldType.int) } : Jvm.ClassFile.MethodDescriptor), implItf := false, inst := ({ parameters := [Jvm.ClassFile.FieldType.int], returnType := (Option.some Jvm.ClassFile.FieldType.int) } : Jvm.ClassFile.MethodDescriptor) } : Jvm.Lambda.Shape)
def sx_13 : MethodName := ⟨"MossLawn", "caughtMany", "()I"⟩
theorem sq_13 : Cond.lambdaSite sx_13 8 568 sg_13 ∈ flatC (Jvm.Cond.and given_1 narrow_1) := by decide +kernel
def sD_13 : Jvm.ClassFile.ClassFile := (sg_13.file "MossLawn").getD { minorVersion := 0, majorVersion := 0, constantPool := #[], accessFlags := 0, thisClass := 0, superClass := 0, interfaces := #[], fields := #[], methods := #[], attributes := #[] }
def sF_13 : Method := ((layoutMethods sD_13).bind (·[1]?)).getD default
def sL_13 : Array Field × Array Jvm.ClassFile.FieldType × Array Jvm.ClassFile.FieldType := (layoutFields sD_13 0).getD (#[], #[], #[])
def sc_13 : ByteArray := ⟨#[0x2a, 0xb4, 0x00, 0x0f, 0x1b, 0xb6, 0x00, 0x16, 0xac]⟩
theorem sfile_13 : sg_13.file "MossLawn" = some sD_13 := by
  have h : (sg_13.file "MossLawn").isSome = true := by decide +kernel
  obtain ⟨x, hx⟩ := Option.isSome_iff_exists.mp h
  simp [sD_13, hx]
theorem ssec_13 : ∀ ms, layoutMethods sD_13 = some ms → ms[1]? = some sF_13 := by
  intro ms hms
  have h : ((layoutMethods sD_13).bind (·[1]?)).isSome = true := by decide +kernel
  obtain ⟨x, hx⟩ := Option.isSome_iff_exists.mp h
  have hf : sF_13 = x := by simp [sF_13, hx]
  rw [hms] at hx
  rw [hf]
  exact hx
theorem slay_13 : layoutFields sD_13 0 = some sL_13 := by
  have h : (layoutFields sD_13 0).isSome = true := by decide +kernel
  obtain ⟨x, hx⟩ := Option.isSome_iff_exists.mp h
  simp [sL_13, hx]
theorem scode_13 : (sF_13.code.map fun c => (c.code.data, c.maxLocals)) = some (sc_13.data, 2) := by decide +kernel
theorem sflag_13 : (sF_13.accessFlags, sF_13.sig.returnType) = (1, sg_13.sam.returnType) := by decide +kernel
theorem sown_13 : sL_13.2.1 = #[(.object "MossLawn")] := by decide +kernel
theorem scap_13 : sg_13.captured ≠ [] := by decide
theorem sis_13 {s0 : State} {b0 : Addr} (h0 : mo_S0 s0 b0) : ∀ vm, s0.WarmedH vm → la_Is sg_13 sD_13 sL_13.1 sL_13.2.1 sc_13 2 vm (laK s0 sx_13 8 568 sg_13) := fun vm hW => by
  obtain ⟨m0, dk, h1, h2, h3⟩ := la_later h0 sq_13 scap_13 rfl hW
  exact la_is sfile_13 ssec_13 slay_13 scode_13 sflag_13 rfl rfl h1 h2 h3 (la_O h0 hW)
theorem sf_13_0 : sD_13.constantPool[15]? = some (.fieldref 2 14) ∧ sD_13.constantPool.nameAndType? 14 = some ("arg$1", "LMossLawn;") ∧ sL_13.1.findIdx? (·.name == "arg$1") = some 0 ∧ (sL_13.1[0]?).map (fun f => (f.isStatic, f.slot)) = some (false, 0) := by decide +kernel
theorem sm_13 : sD_13.constantPool[22]? = some (.methodref 19 21) ∧ sD_13.constantPool.className? 19 = some "MossLawn" ∧ sD_13.constantPool.nameAndType? 21 = some ("lambda$caughtMany$12", "(I)I") ∧ sD_13.constantPool[19]? = some (.class_ 18) ∧ sD_13.constantPool.string? 18 = some "MossLawn" ∧ 19 ≠ sD_13.thisClass ∧ sg_13.implName = "lambda$caughtMany$12" ∧ sg_13.implDesc.toString = "(I)I" := by decide +kernel
theorem sd_13_0 : decode sc_13 0 = .ok (.aload_n 0, 1) := by decide +kernel
theorem sd_13_1 : decode sc_13 1 = .ok (.getfield 15, 3) := by decide +kernel
theorem sd_13_4 : decode sc_13 4 = .ok (.iload_n 1, 1) := by decide +kernel
theorem sd_13_5 : decode sc_13 5 = .ok (.invokevirtual 22, 3) := by decide +kernel
theorem sd_13_8 : decode sc_13 8 = .ok (.ireturn, 1) := by decide +kernel
/-! site 14: lambda$account$13 -/
def sg_14 : Jvm.Lambda.Shape := ({ iface := "MossLawn$Counted", name := "of", sam := ({ parameters := [Jvm.ClassFile.FieldType.int], returnType := (Option.some Jvm.ClassFile.FieldType.int) } : Jvm.ClassFile.MethodDescriptor), captured := [(Jvm.ClassFile.FieldType.object "MossLawn")], kind := 5, implClass := "MossLawn", implName := "lambda$account$13", implDesc := ({ parameters := [Jvm.ClassFile.FieldType.int], returnType := (Option.some Jvm.ClassFile.FieldType.int) } : Jvm.ClassFile.MethodDescriptor), implItf := false, inst := ({ parameters := [Jvm.ClassFile.FieldType.int], returnType := (Option.some Jvm.ClassFile.FieldType.int) } : Jvm.ClassFile.MethodDescriptor) } : Jvm.Lambda.Shape)
def sx_14 : MethodName := ⟨"MossLawn", "account", "(I)I"⟩
theorem sq_14 : Cond.lambdaSite sx_14 159 578 sg_14 ∈ flatC (Jvm.Cond.and given_1 narrow_1) := by decide +kernel
def sD_14 : Jvm.ClassFile.ClassFile := (sg_14.file "MossLawn").getD { minorVersion := 0, majorVersion := 0, constantPool := #[], accessFlags := 0, thisClass := 0, superClass := 0, interfaces := #[], fields := #[], methods := #[], attributes := #[] }
def sF_14 : Method := ((layoutMethods sD_14).bind (·[1]?)).getD default
def sL_14 : Array Field × Array Jvm.ClassFile.FieldType × Array Jvm.ClassFile.FieldType := (layoutFields sD_14 0).getD (#[], #[], #[])
def sc_14 : ByteArray := ⟨#[0x2a, 0xb4, 0x00, 0x0f, 0x1b, 0xb6, 0x00, 0x16, 0xac]⟩
theorem sfile_14 : sg_14.file "MossLawn" = some sD_14 := by
  have h : (sg_14.file "MossLawn").isSome = true := by decide +kernel
  obtain ⟨x, hx⟩ := Option.isSome_iff_exists.mp h
  simp [sD_14, hx]
theorem ssec_14 : ∀ ms, layoutMethods sD_14 = some ms → ms[1]? = some sF_14 := by
  intro ms hms
  have h : ((layoutMethods sD_14).bind (·[1]?)).isSome = true := by decide +kernel
  obtain ⟨x, hx⟩ := Option.isSome_iff_exists.mp h
  have hf : sF_14 = x := by simp [sF_14, hx]
  rw [hms] at hx
  rw [hf]
  exact hx
theorem slay_14 : layoutFields sD_14 0 = some sL_14 := by
  have h : (layoutFields sD_14 0).isSome = true := by decide +kernel
  obtain ⟨x, hx⟩ := Option.isSome_iff_exists.mp h
  simp [sL_14, hx]
theorem scode_14 : (sF_14.code.map fun c => (c.code.data, c.maxLocals)) = some (sc_14.data, 2) := by decide +kernel
theorem sflag_14 : (sF_14.accessFlags, sF_14.sig.returnType) = (1, sg_14.sam.returnType) := by decide +kernel
theorem sown_14 : sL_14.2.1 = #[(.object "MossLawn")] := by decide +kernel
theorem scap_14 : sg_14.captured ≠ [] := by decide
theorem sis_14 {s0 : State} {b0 : Addr} (h0 : mo_S0 s0 b0) : ∀ vm, s0.WarmedH vm → la_Is sg_14 sD_14 sL_14.1 sL_14.2.1 sc_14 2 vm (laK s0 sx_14 159 578 sg_14) := fun vm hW => by
  obtain ⟨m0, dk, h1, h2, h3⟩ := la_later h0 sq_14 scap_14 rfl hW
  exact la_is sfile_14 ssec_14 slay_14 scode_14 sflag_14 rfl rfl h1 h2 h3 (la_O h0 hW)
theorem sf_14_0 : sD_14.constantPool[15]? = some (.fieldref 2 14) ∧ sD_14.constantPool.nameAndType? 14 = some ("arg$1", "LMossLawn;") ∧ sL_14.1.findIdx? (·.name == "arg$1") = some 0 ∧ (sL_14.1[0]?).map (fun f => (f.isStatic, f.slot)) = some (false, 0) := by decide +kernel
theorem sm_14 : sD_14.constantPool[22]? = some (.methodref 19 21) ∧ sD_14.constantPool.className? 19 = some "MossLawn" ∧ sD_14.constantPool.nameAndType? 21 = some ("lambda$account$13", "(I)I") ∧ sD_14.constantPool[19]? = some (.class_ 18) ∧ sD_14.constantPool.string? 18 = some "MossLawn" ∧ 19 ≠ sD_14.thisClass ∧ sg_14.implName = "lambda$account$13" ∧ sg_14.implDesc.toString = "(I)I" := by decide +kernel
theorem sd_14_0 : decode sc_14 0 = .ok (.aload_n 0, 1) := by decide +kernel
theorem sd_14_1 : decode sc_14 1 = .ok (.getfield 15, 3) := by decide +kernel
theorem sd_14_4 : decode sc_14 4 = .ok (.iload_n 1, 1) := by decide +kernel
theorem sd_14_5 : decode sc_14 5 = .ok (.invokevirtual 22, 3) := by decide +kernel
theorem sd_14_8 : decode sc_14 8 = .ok (.ireturn, 1) := by decide +kernel
/-! site 15: lambda$account$14 -/
def sg_15 : Jvm.Lambda.Shape := ({ iface := "MossLawn$Counted", name := "of", sam := ({ parameters := [Jvm.ClassFile.FieldType.int], returnType := (Option.some Jvm.ClassFile.FieldType.int) } : Jvm.ClassFile.MethodDescriptor), captured := [(Jvm.ClassFile.FieldType.object "MossLawn")], kind := 5, implClass := "MossLawn", implName := "lambda$account$14", implDesc := ({ parameters := [Jvm.ClassFile.FieldType.int], returnType := (Option.some Jvm.ClassFile.FieldType.int) } : Jvm.ClassFile.MethodDescriptor), implItf := false, inst := ({ parameters := [Jvm.ClassFile.FieldType.int], returnType := (Option.some Jvm.ClassFile.FieldType.int) } : Jvm.ClassFile.MethodDescriptor) } : Jvm.Lambda.Shape)
def sx_15 : MethodName := ⟨"MossLawn", "account", "(I)I"⟩
theorem sq_15 : Cond.lambdaSite sx_15 176 579 sg_15 ∈ flatC (Jvm.Cond.and given_1 narrow_1) := by decide +kernel
def sD_15 : Jvm.ClassFile.ClassFile := (sg_15.file "MossLawn").getD { minorVersion := 0, majorVersion := 0, constantPool := #[], accessFlags := 0, thisClass := 0, superClass := 0, interfaces := #[], fields := #[], methods := #[], attributes := #[] }
def sF_15 : Method := ((layoutMethods sD_15).bind (·[1]?)).getD default
def sL_15 : Array Field × Array Jvm.ClassFile.FieldType × Array Jvm.ClassFile.FieldType := (layoutFields sD_15 0).getD (#[], #[], #[])
def sc_15 : ByteArray := ⟨#[0x2a, 0xb4, 0x00, 0x0f, 0x1b, 0xb6, 0x00, 0x16, 0xac]⟩
theorem sfile_15 : sg_15.file "MossLawn" = some sD_15 := by
  have h : (sg_15.file "MossLawn").isSome = true := by decide +kernel
  obtain ⟨x, hx⟩ := Option.isSome_iff_exists.mp h
  simp [sD_15, hx]
theorem ssec_15 : ∀ ms, layoutMethods sD_15 = some ms → ms[1]? = some sF_15 := by
  intro ms hms
  have h : ((layoutMethods sD_15).bind (·[1]?)).isSome = true := by decide +kernel
  obtain ⟨x, hx⟩ := Option.isSome_iff_exists.mp h
  have hf : sF_15 = x := by simp [sF_15, hx]
  rw [hms] at hx
  rw [hf]
  exact hx
theorem slay_15 : layoutFields sD_15 0 = some sL_15 := by
  have h : (layoutFields sD_15 0).isSome = true := by decide +kernel
  obtain ⟨x, hx⟩ := Option.isSome_iff_exists.mp h
  simp [sL_15, hx]
theorem scode_15 : (sF_15.code.map fun c => (c.code.data, c.maxLocals)) = some (sc_15.data, 2) := by decide +kernel
theorem sflag_15 : (sF_15.accessFlags, sF_15.sig.returnType) = (1, sg_15.sam.returnType) := by decide +kernel
theorem sown_15 : sL_15.2.1 = #[(.object "MossLawn")] := by decide +kernel
theorem scap_15 : sg_15.captured ≠ [] := by decide
theorem sis_15 {s0 : State} {b0 : Addr} (h0 : mo_S0 s0 b0) : ∀ vm, s0.WarmedH vm → la_Is sg_15 sD_15 sL_15.1 sL_15.2.1 sc_15 2 vm (laK s0 sx_15 176 579 sg_15) := fun vm hW => by
  obtain ⟨m0, dk, h1, h2, h3⟩ := la_later h0 sq_15 scap_15 rfl hW
  exact la_is sfile_15 ssec_15 slay_15 scode_15 sflag_15 rfl rfl h1 h2 h3 (la_O h0 hW)
theorem sf_15_0 : sD_15.constantPool[15]? = some (.fieldref 2 14) ∧ sD_15.constantPool.nameAndType? 14 = some ("arg$1", "LMossLawn;") ∧ sL_15.1.findIdx? (·.name == "arg$1") = some 0 ∧ (sL_15.1[0]?).map (fun f => (f.isStatic, f.slot)) = some (false, 0) := by decide +kernel
theorem sm_15 : sD_15.constantPool[22]? = some (.methodref 19 21) ∧ sD_15.constantPool.className? 19 = some "MossLawn" ∧ sD_15.constantPool.nameAndType? 21 = some ("lambda$account$14", "(I)I") ∧ sD_15.constantPool[19]? = some (.class_ 18) ∧ sD_15.constantPool.string? 18 = some "MossLawn" ∧ 19 ≠ sD_15.thisClass ∧ sg_15.implName = "lambda$account$14" ∧ sg_15.implDesc.toString = "(I)I" := by decide +kernel
theorem sd_15_0 : decode sc_15 0 = .ok (.aload_n 0, 1) := by decide +kernel
theorem sd_15_1 : decode sc_15 1 = .ok (.getfield 15, 3) := by decide +kernel
theorem sd_15_4 : decode sc_15 4 = .ok (.iload_n 1, 1) := by decide +kernel
theorem sd_15_5 : decode sc_15 5 = .ok (.invokevirtual 22, 3) := by decide +kernel
theorem sd_15_8 : decode sc_15 8 = .ok (.ireturn, 1) := by decide +kernel

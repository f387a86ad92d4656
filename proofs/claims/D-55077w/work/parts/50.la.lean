/-! Lambdas: the sites' classes (made by the machine's rule), their objects and calls (after JvmDerived/LambdaWords2, LambdaCalls, Example/ToyCaptured, Example/ForwardCaptured) -/
set_option maxRecDepth 100000
theorem la_bind {α β : Type} {x : Option α} {f : α → Option β} {r : β} (h : (x >>= f) = some r) : ∃ a, x = some a ∧ f a = some r := by
  cases x with
  | none => cases h
  | some a => exact ⟨a, rfl, h⟩
theorem la_site {cf : Jvm.ClassFile.ClassFile} {index : Nat} {sh : Jvm.Lambda.Shape} (h : Jvm.Lambda.shapeOf? cf index = some sh) : ∃ b nt name desc sig, cf.constantPool[index]? = some (.invokeDynamic b nt) ∧ cf.constantPool.nameAndType? nt = some (name, desc) ∧ Jvm.ClassFile.parseMethodDescriptor desc = some sig ∧ sig.parameters = sh.captured := by
  unfold Jvm.Lambda.shapeOf? at h
  cases h1 : cf.constantPool[index]? with
  | none => rw [h1] at h; cases h
  | some x =>
    rw [h1] at h
    cases x with
    | invokeDynamic b nt =>
      obtain ⟨entries, -, h⟩ := la_bind h
      obtain ⟨bm, -, h⟩ := la_bind h
      obtain ⟨rf, ⟨l⟩⟩ := bm
      dsimp only at h
      cases h2 : cf.constantPool[rf]? with
      | none => rw [h2] at h; cases h
      | some y =>
        rw [h2] at h
        cases y with
        | methodHandle k9 r =>
          split at h
          · obtain ⟨u1, -, h⟩ := la_bind h
            match l, h with
            | [], h => cases h
            | [_], h => cases h
            | [_, _], h => cases h
            | _ :: _ :: _ :: _ :: _, h => cases h
            | [a0, a1, a2], h =>
              have h : (match cf.constantPool[a0]? with
                | some (Jvm.ClassFile.CpInfo.methodType d0) =>
                  match cf.constantPool[a1]? with
                  | some (Jvm.ClassFile.CpInfo.methodHandle kind r1) =>
                    match cf.constantPool[a2]? with
                    | some (Jvm.ClassFile.CpInfo.methodType d2) => (do
                      let (name, desc) ← cf.constantPool.nameAndType? nt
                      let site ← Jvm.ClassFile.parseMethodDescriptor desc
                      let some (.object iface) := site.returnType | none
                      let (implClass, implName, implDesc, implItf) ← Jvm.Lambda.memberOf? cf.constantPool r1
                      pure ({ iface, name, sam := ← Jvm.ClassFile.parseMethodDescriptor (← cf.constantPool.string? d0), captured := site.parameters, kind, implClass, implName, implDesc := ← Jvm.ClassFile.parseMethodDescriptor implDesc, implItf, inst := ← Jvm.ClassFile.parseMethodDescriptor (← cf.constantPool.string? d2) } : Jvm.Lambda.Shape))
                    | _ => none
                  | _ => none
                | _ => none) = some sh := h
              split at h
              · split at h
                · split at h
                  · obtain ⟨nd, hnd, h⟩ := la_bind h
                    obtain ⟨name, desc⟩ := nd
                    obtain ⟨site, hs, h⟩ := la_bind h
                    split at h
                    · obtain ⟨mem, -, h⟩ := la_bind h
                      obtain ⟨q1, q2, q3, q4⟩ := mem
                      obtain ⟨y1, -, h⟩ := la_bind h
                      obtain ⟨y2, -, h⟩ := la_bind h
                      obtain ⟨y3, -, h⟩ := la_bind h
                      obtain ⟨y4, -, h⟩ := la_bind h
                      obtain ⟨y5, -, h⟩ := la_bind h
                      cases h
                      exact ⟨b, nt, name, desc, site, rfl, hnd, hs, rfl⟩
                    · cases h
                  · cases h
                · cases h
              · cases h
          · cases h
        | _ => cases h
    | _ => cases h

abbrev laE : Setting := { classPath := fun _ => none }
/-- what is known of a made class at tables vm: its one method (the forwarder), its fields, what its pool's entries are resolved to -/
def la_Is (σ : Jvm.Lambda.Shape) (D : Jvm.ClassFile.ClassFile) (fs : Array Field) (own : Array Jvm.ClassFile.FieldType) (cc : ByteArray) (nL : Nat) (vm : Vm) (ck : ClassId) : Prop :=
  ∃ (k tk : Class) (file : Jvm.ClassFile.ClassFile) (mk : Method) (co : Code) (toy : ClassId) (t : MethodId),
    vm.classes[ck]? = some k ∧ k.name = "MossLawn$$Lambda" ∧ k.cf = some file ∧ file.constantPool = D.constantPool ∧ vm.method? ⟨ck, 1⟩ = some mk ∧ mk.code = some co ∧ co.code = cc ∧ co.maxLocals = nL ∧ co.exceptionTable = #[] ∧ mk.locks = false ∧ mk.accessFlags = 1 ∧ mk.sig.returnType = σ.sam.returnType ∧
    vm.findClass "MossLawn" = some toy ∧ vm.classes[toy]? = some tk ∧ tk.name = "MossLawn" ∧ tk.isInterface = false ∧ ((methodIn toy σ.implName σ.implDesc.toString false none).ask laE vm).1 = .ok t ∧ (k.instanceTypes = own ∧ k.kind = .ordinary) ∧
    (∀ (i : Nat) x, (Jvm.Lambda.resolvedOf laE vm D fs ck)[i]? = some (some x) → k.resolved[i]? = some (some x)) ∧ ∀ (i : Nat) f, fs[i]? = some f → k.fields[i]? = some f
theorem la_is {σ : Jvm.Lambda.Shape} {D : Jvm.ClassFile.ClassFile} {fs : Array Field} {own st : Array Jvm.ClassFile.FieldType} {fw : Method} {cc : ByteArray} {nL : Nat} (hfile : σ.file "MossLawn" = some D) (hsec : ∀ ms, layoutMethods D = some ms → ms[1]? = some fw) (hlay : layoutFields D 0 = some (fs, own, st))
    (hcode : (fw.code.map fun c => (c.code.data, c.maxLocals)) = some (cc.data, nL)) (hfl : (fw.accessFlags, fw.sig.returnType) = (1, σ.sam.returnType)) (himpl : σ.implClass = "MossLawn") (hitf : σ.implItf = false)
    {vm : Vm} {d ck : ClassId} {dk : Class} (hd : vm.classes[d]? = some dk) (hname : dk.name = "MossLawn") (h : Jvm.Lambda.isMade laE vm d σ ck = true)
    (hO : ∀ o ok, vm.findClass "java/lang/Object" = some o → vm.classes[o]? = some ok → ok.instanceTypes.size = 0) : la_Is σ D fs own cc nL vm ck := by
  obtain ⟨dk', k, ok, tk, file, cf, object, iface, toy, lay, methods, target, found, hd', hk, hfile', hcf, hobj, -, hok, hlay', hms, ht, htk, hg, -, hrec, -, -, -, hitf', hpool, hmeth, hfields, hit, hres, -⟩ := Jvm.Lambda.isMade_spec h
  cases hd.symm.trans hd'
  rw [hname, hfile] at hcf
  cases hcf
  have ho0 := hO object ok hobj hok
  rw [ho0, hlay] at hlay'
  cases hlay'
  obtain ⟨b, hb, hsame⟩ := hmeth 1 fw (hsec methods hms)
  obtain ⟨-, -, hsig, hfl', x, y, hx, hy, -, hml, hc, hex⟩ := Jvm.Lambda.sameMethod_spec hsame
  simp only [Prod.mk.injEq] at hfl
  rw [hx] at hcode
  simp only [Option.map_some, Option.some.injEq, Prod.mk.injEq] at hcode
  rw [himpl] at ht
  rw [hitf] at hitf'
  obtain ⟨k9, h9, h9n⟩ := Vm.findClass_spec ht
  cases htk.symm.trans h9
  refine ⟨k, tk, file, b, y, toy, target, hk, by rw [hrec.1, hname]; rfl, hfile', hpool.2.1, by simp [Vm.method?, hk, hb], hy, ?_, by rw [hml]; exact hcode.2, hex, ?_, by rw [hfl']; exact hfl.1, by rw [hsig]; exact hfl.2, ht, htk, ?_, hitf', by rw [← hitf']; exact hg, ⟨?_, hrec.2.1⟩, hres, fun i f hf => hfields i f hf⟩
  · rw [hc]; exact ByteArray.ext hcode.1
  · simp [Method.locks, Method.isSynchronized, hfl', hfl.1, hasFlag, Acc.synchronized]
  · first | exact h9n | exact h9n.1 | exact h9n.2
  · have e : ok.instanceTypes = #[] := Array.eq_empty_of_size_eq_zero ho0
    rw [hit.1, e]; simp

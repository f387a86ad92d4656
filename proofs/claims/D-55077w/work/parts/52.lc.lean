/-! Lambdas in a walk: the forwarder's rows; a call through the interface -/
set_option maxRecDepth 100000
section LC
variable {p : Program} {l : Launch} {e : Env} {R : Room} {s : State} {m : MethodId} {args : Array Value} {below : List Frame} {meth : Method} {c : Code} {H : Heap} {locs : List Loc} {cells slots : Nat} {Q : State → Prop} {pc : Nat} {ls : Array Slot} {rest : List Value} {cc : ByteArray}
variable {σ : Jvm.Lambda.Shape} {D : Jvm.ClassFile.ClassFile} {fs : Array Field} {ow : Array Jvm.ClassFile.FieldType} {nLf : Nat}
theorem hw_get (hx : p.tables.exec = Jvm.exec) (hb : c.code = cc) {cf9 : ByteArray} (hIs : ∀ vm, s.WarmedH vm → la_Is σ D fs ow cf9 nLf vm m.cls) {idx ci nt j : Nat} {nm d : String} {f : Field} (hcp : D.constantPool[idx]? = some (.fieldref ci nt)) (hnt : D.constantPool.nameAndType? nt = some (nm, d)) (hj : fs.findIdx? (·.name == nm) = some j) (hf : fs[j]? = some f)
    (hst : f.isStatic = false) (hsl : f.slot = j) {a : Nat} {cell : Cell} {v : Value} (hcell : H[a]? = some cell) (hvm : cell.vm = .none) (hv : cell.slots[j]? = some v) (hdg : decode cc pc = .ok (.getfield idx, 3))
    (kk : W p l e R s m args below meth c H locs cells slots Q (F0 m (pc + 3) ls (v :: rest))) : W p l e R s m args below meth c H locs cells slots Q (F0 m pc ls (.ref a :: rest)) := by
  intro T hT X
  obtain ⟨t, a1, b1⟩ := kk T hT X
  refine ⟨t, ?_, b1⟩
  obtain ⟨k, tk, file, mk, co, toy, t9, g1, -, -, -, -, -, -, -, -, -, -, -, -, -, -, -, -, -, g19, g20⟩ := hIs T.vm X.warmed
  have hready : T.vm.fieldReady m.cls idx m.cls f := ⟨k, j, k, g1, g19 idx _ (Jvm.Lambda.resolvedOf_field hcp hnt hj), g1, g20 j f hf⟩
  have hdg' : decode c.code pc = .ok (.getfield idx, 3) := by rw [hb]; exact hdg
  jvm_step X.here [hx, hdg', Op.getfield.wp_ready (e := e) (s := T) (c := m.cls) (field := f) (a := a) (rest := rest) (cell := cell) (v := v) (f := F0 m pc ls (.ref a :: rest)) X.here.top hready hst rfl (by rw [hT]; exact hcell) (by rw [hvm]; exact fun h => by cases h) (by rw [hsl]; exact hv)]
  exact a1
theorem hw_call {T : State} (X : Stand p l e R s m args below meth c T locs cells slots) (hx : p.tables.exec = Jvm.exec) {cf9 : ByteArray} (hIs : ∀ vm, s.WarmedH vm → la_Is σ D fs ow cf9 nLf vm m.cls) {idx ci nt n : Nat} {y : MethodName} {bytes : ByteArray} {maxL : Nat} {ret : Option Jvm.ClassFile.FieldType}
    (hcp : D.constantPool[idx]? = some (.methodref ci nt)) (hcn : D.constantPool.className? ci = some "MossLawn") (hnt : D.constantPool.nameAndType? nt = some (y.name, y.desc)) (hcc : D.constantPool[ci]? = some (.class_ n)) (hcs : D.constantPool.string? n = some "MossLawn") (hne : ci ≠ D.thisClass)
    (hy : y.cls = "MossLawn") (hin : σ.implName = y.name) (hid : σ.implDesc.toString = y.desc)
    (hinst : (Cond.instanceMethod y).before args s = true) (hsel : (Cond.selects "MossLawn" y y).before args s = true) (hcode : (Cond.code y bytes maxL ret).before args s = true)
    {b : Addr} {cellB : Cell} (hcell : T.heap[b]? = some cellB) (hobj : cellB.vm.isStatics = false) (hcls : s.vm.findClass "MossLawn" = some cellB.cls)
    {g : JFrame} (hg : g.method = m) {argsL rest : List Value} (hlen : ∀ sig, parseMethodDescriptor y.desc = some sig → argsL.length = sig.parameters.length) (hstack : g.stack = argsL.reverse ++ .ref b :: rest) (hdg : decode c.code g.pc = .ok (.invokevirtual idx, 3)) :
    ∃ mk, s.methodNamed? y = some mk ∧ ∀ target, (∀ acts, Steps p.tables e below (doInvoke e (T.setTop { g with stack := rest }) acts mk (Value.ref b :: argsL).toArray).1 target) → Steps p.tables e below (T.setTop g) target := by
  subst hg
  have hyy : y.cls ≠ "java/lang/invoke/MethodHandle" ∧ y.cls ≠ "java/lang/invoke/VarHandle" := by rw [hy]; decide
  obtain ⟨k, tk, file, mkF, co, toy, t9, g1, g2, g3, g4, g5, -, -, -, -, -, -, -, g13, g14, g15, g16, g17, -, g19, -⟩ := hIs T.vm X.warmed
  obtain ⟨mk, methM, hnamed, hmethM, hstM, habM⟩ := Cond.instanceMethod_spec hinst
  obtain ⟨methM', cM, hmethM', -, -, -, -, -, -, hsigM⟩ := Cond.code_spec hnamed hcode
  cases hmethM.symm.trans hmethM'
  obtain ⟨c2, r2, m2, q1, q2, q3, q4, kP, hkP, hkPi⟩ := Cond.selects_spec hsel
  cases hcls.symm.trans q1
  cases (State.methodFound?_of_named hnamed hyy).symm.trans q2
  cases hnamed.symm.trans q3
  have hA := X.warmed.alike
  have hmkc : s.vm.findClass y.cls = some mk.cls := findClass_of_methodNamed hnamed
  have htoy : toy = mk.cls := by
    have h1 := g13
    rw [hA.findClass, ← hy, hmkc] at h1
    exact (Option.some.inj h1).symm
  have ht : t9 = mk := by
    have h1 : (s.setVm T.vm).methodFound? y.cls y.name y.desc = some mk := by rw [State.methodFound?_setVm hA]; exact State.methodFound?_of_named hnamed hyy
    have g13' : T.vm.findClass y.cls = some toy := by rw [hy]; exact g13
    simp only [State.methodFound?, State.vm_setVm, g13', g14, Option.bind_eq_bind, Option.bind_some, g16] at h1
    rw [hin, hid] at g17
    rw [g17] at h1
    exact Option.some.inj h1
  subst ht
  refine ⟨t9, hnamed, fun target hrest => ?_⟩
  obtain ⟨kP', hkP', heP⟩ := hA.2.2 _ _ hkP
  have hmT : T.vm.method? t9 = some methM := by rw [hA.method?]; exact hmethM
  have hnotMH : ∀ z : Method, signaturePolymorphic tk z = false := fun z => by simp [signaturePolymorphic, g15]
  have hclsR : T.vm.classReady g.method.cls ci toy := ⟨k, g1, g19 ci _ (Jvm.Lambda.resolvedOf_class hcc hne hcs g13)⟩
  have hnmd : namesAClass T g.method.cls idx := ⟨k, file, ci, nt, toy, tk, g1, g3, by rw [g4]; exact hcp, hclsR, g14, g16⟩
  have hready : T.vm.methodReady g.method.cls idx t9 := ⟨k, g1, g19 idx _ (Jvm.Lambda.resolvedOf_method hcp hcn g13 g14 hnt (by rw [g16]; rw [hin, hid] at g17; exact g17))⟩
  have hselT : selectMethod e.platform T.vm cellB.cls t9 = .method t9 := by
    rw [Launch.admits_selectMethod X.admits]
    have := q4
    rw [← hA.selectMethod] at this
    exact this
  jvm_step X.here [hx, hdg, Op.invokevirtual.wp_ready (e := e) (s := T) (r := t9) (m := t9) (k := tk) (mk := kP') (rmeth := methM) (meth := methM) (a := b) (args := argsL) (rest := rest) (cell := cellB) (f := g) X.here.top hnmd hready (by rw [← htoy]; exact g14) hmT (hnotMH _) hstM (hlen _ hsigM) hstack hcell (fun z h => by rw [h] at hobj; cases hobj) hselT hmT habM hkP' (by rw [heP]; exact hkPi)]
  intro acts
  exact hrest acts
end LC

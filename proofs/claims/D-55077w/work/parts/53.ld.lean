/-! Lambdas in a walk: the forwarder's call of a read-only contract; the interface call of a read-only lambda -/
set_option maxRecDepth 100000
section LD
variable {p : Program} {l : Launch} {e : Env} {R : Room} {s s0 : State} {b0 : Addr} {m : MethodId} {args : Array Value} {below : List Frame} {meth : Method} {c : Code} {H : Heap} {locs : List Loc} {cells slots : Nat} {Q : State → Prop} {pc : Nat} {ls : Array Slot} {rest : List Value} {cc : ByteArray} {G : va_G} {ai : Nat → ClassId} {A : Nat → Prop} {nL : Nat}
variable {σ : Jvm.Lambda.Shape} {D : Jvm.ClassFile.ClassFile} {fs : Array Field} {ow : Array Jvm.ClassFile.FieldType} {nLf : Nat}
theorem gz_preK {As : List Value} {w0 : va_W} (hK : va_K G mo_cl (mo_ty ai) s) (hZ : mo_Z s0 A s) (hI : mo_I G A s.heap w0 H locs) : ∀ U : State, U.heap = H → s.WarmedH U.vm → va_Pc As (gz_B G ai s0 w0 H.size) As.toArray U := by
  intro U hU hW
  have hS := hI.2.2
  refine ⟨rfl, ⟨by rw [hU], by rw [hU]; exact hI.1, va_K.moved hW.alike hK, hI.2.1.weaken (fun _ _ _ _ => trivial)⟩, State.WarmedH.trans hZ.1 hW, ?_, ?_, ?_⟩
  · rw [hU]; exact Nat.le_trans hZ.2.1 hS.1
  · intro q hq
    rw [hU]
    exact mo_Zold hZ hS hq
  · rintro q ⟨e, he⟩
    exact hZ.2.2.2 q ((mo_Dnd.mp hI.2.1).2 (q, e) he)
theorem hw_rd {cf9 : ByteArray} {y : MethodName} {bytes : ByteArray} {maxL : Nat} {ret : Option Jvm.ClassFile.FieldType} {rm : Room} {w0 : va_W} {As : List Value} {b q0 n ci nt n9 idx : Nat} {v : Value} {fv : List Value} (hx : p.tables.exec = Jvm.exec) (hb : c.code = cc) (hml : c.maxLocals = nL) (hts : ∀ w ∈ lw_all, w.before args s = true) (hK : va_K G mo_cl (mo_ty ai) s) (hZ : mo_Z s0 A s) (hI : mo_I G A s.heap w0 H locs)
    (hIs : ∀ vm, s.WarmedH vm → la_Is σ D fs ow cf9 nLf vm m.cls)
    (hcp : D.constantPool[idx]? = some (.methodref ci nt)) (hcn : D.constantPool.className? ci = some "MossLawn") (hnt : D.constantPool.nameAndType? nt = some (y.name, y.desc)) (hcc : D.constantPool[ci]? = some (.class_ n9)) (hcs : D.constantPool.string? n9 = some "MossLawn") (hne : ci ≠ D.thisClass)
    (hy : y.cls = "MossLawn") (hin : σ.implName = y.name) (hid : σ.implDesc.toString = y.desc)
    (hM : rd_Met l G ai s0 y bytes maxL ret rm (.ref b :: As) w0 v) (hrc : rm.cells = 0) (hrs : rm.slots = 0) (hfr : rm.frames + 1 ≤ R.frames) (hlo : 8 + (maxL + 11) + rm.locals ≤ R.locals)
    (hqc : Cond.code y bytes maxL ret ∈ lw_all) (hqi : Cond.instanceMethod y ∈ lw_all) (hqs : Cond.selects "MossLawn" y y ∈ lw_all) (hqn : Cond.initialized y.cls ∈ lw_all)
    (hrecv : w0[q0]? = some (b, .inr (1, fv))) (hsz : ls.size = nL) (hn : (Jvm.ClassFile.parseMethodDescriptor y.desc).map (fun d => d.parameters.length) = some n) (hAs : As.length = n) (hW : (rest.map fun v => v.category).sum ≤ 8) (hdg : decode cc pc = .ok (.invokevirtual idx, 3)) (hc0 : cells ≤ R.cells) (hs0 : slots ≤ R.slots)
    (kk : W p l e R s m args below meth c H locs cells slots Q (F0 m (pc + 3) ls (v :: rest))) : W p l e R s m args below meth c H locs cells slots Q (F0 m pc ls (As.reverse ++ .ref b :: rest)) := by
  have hK9 : Back l R p e below s args y 3 8 (PreOf R 0 0 (va_Pc (.ref b :: As) (gz_B G ai s0 w0 H.size))) (PostOf (rd_Q v) 0 0 (fun _ => False)) := back_of (bytes := bytes) (maxL := maxL) (ret := ret) (hM H.size) gz_blind hrc hrs hfr hlo (pay_in hts (lw_meth hqc)) List.mem_cons_self (fun a' U hW => word_at hW (Or.inl (by first | rfl | simp [Cond.onTables, Cond.keeps, Cond.steady])) (hts _ hqn))
  obtain ⟨cellB, hcB, hoB, hclB⟩ := va_recv hK hI.1 (ci := 1) (q0 := q0) rfl hrecv
  intro T hT X
  obtain ⟨mk, hnamed, hstep⟩ := hw_call X hx hIs hcp hcn hnt hcc hcs hne hy hin hid (hts _ hqi) (hts _ hqs) (hts _ hqc) (b := b) (cellB := cellB) (by rw [hT]; exact hcB) hoB hclB (g := F0 m pc ls (As.reverse ++ .ref b :: rest)) rfl (argsL := As) (rest := rest) (fun sig h => by rw [h] at hn; exact hAs.trans (Option.some.inj hn).symm) rfl (by rw [hb]; exact hdg)
  obtain ⟨v', ⟨U', l2, c2, s2⟩, X', ⟨g', mk', t, L, e1, e2, hq, h1, hL, h2, h3⟩, hsteps⟩ := hK9 m meth c ⟨T, locs, cells, slots⟩ (F0 m pc ls rest) (.invokevirtual idx) mk (Value.ref b :: As).toArray X rfl (hsz.trans hml.symm) (by rw [hb]; exact hdg) (lv_room hW) (X.named hnamed) ⟨hc0, hs0, gz_preK hK hZ hI T hT X.warmed⟩
  dsimp only [Pt.U, Pt.locs, Pt.cells, Pt.slots] at X' e1 e2 h1 h2 h3 hsteps hq
  subst h1; subst h2; subst h3
  obtain ⟨hv, hh⟩ := hq
  cases hv
  have hLn : L = [] := by
    cases L with
    | nil => rfl
    | cons a b => exact absurd (hL a List.mem_cons_self) id
  subst hLn
  rw [List.append_nil] at X'
  obtain ⟨t2, a1, b1⟩ := kk U' (by rw [e1, hh]; exact hT) X'
  exact ⟨t2, hstep t2 (fun acts => by rw [doInvoke_state]; exact hsteps.trans a1), b1⟩
/-- a call through the interface of a lambda that reads only -/
theorem la_rd {own : String} {xI : MethodName} {rm : Room} {As : List Value} {a ck idx count n : Nat} {cell : Cell} {v : Value} {d9 : ClassId} {nL9 : Nat} {cf9 : ByteArray} (hx : p.tables.exec = Jvm.exec) (hb : c.code = cc) (hml : c.maxLocals = nL) (ho : s.vm.findClass own = some m.cls) (hts : ∀ w ∈ lw_all, w.before args s = true)
    (hlink : Cond.methodLink own idx xI ∈ lw_all) (hdecl : (Cond.declares xI).before args s = true) (hface : (Cond.interfaceMethod xI.cls xI.cls xI.name xI.desc).before args s = true) (hxI : xI.cls ≠ "java/lang/invoke/MethodHandle" ∧ xI.cls ≠ "java/lang/invoke/VarHandle")
    (hif : σ.iface = xI.cls) (hnm : σ.name = xI.name) (hds : σ.sam.toString = xI.desc) (hmade : Jvm.Lambda.isMade laE s.vm d9 σ ck = true) (hcan : s.lambdaCallable σ ck = true) (hIs : ∀ vm, s.WarmedH vm → la_Is σ D fs ow cf9 nL9 vm ck)
    (hcell : H[a]? = some cell) (hck : cell.cls = ck) (hvm : cell.vm = .none)
    (hfr : rm.frames + 1 ≤ R.frames) (hlo : 8 + (nL9 + 11) + rm.locals ≤ R.locals) (hrc : rm.cells = 0) (hrs : rm.slots = 0)
    (hsz : ls.size = nL) (hn : (Jvm.ClassFile.parseMethodDescriptor xI.desc).map (fun d => d.parameters.length) = some n) (hAs : As.length = n) (hW : (rest.map fun v => v.category).sum ≤ 8) (hdg : decode cc pc = .ok (.invokeinterface idx count, 5)) (hc0 : cells ≤ R.cells) (hs0 : slots ≤ R.slots)
    (body : ∀ (s9 : State) (below9 : List Frame) (meth9 : Method) (c9 : Code), s9.heap = H → s.WarmedH s9.vm → c9.code = cf9 → c9.maxLocals = nL9 → meth9.sig.returnType = σ.sam.returnType → meth9.locks = false →
      W p l e rm s9 ⟨ck, 1⟩ (Value.ref a :: As).toArray below9 meth9 c9 s9.heap [] 0 0 (MQ below9 (rd_Q v) (Value.ref a :: As).toArray s9 0 0 (fun _ => False)) (entryFrame ⟨ck, 1⟩ (Value.ref a :: As).toArray nL9))
    (kk : W p l e R s m args below meth c H locs cells slots Q (F0 m (pc + 5) ls (v :: rest))) : W p l e R s m args below meth c H locs cells slots Q (F0 m pc ls (As.reverse ++ .ref a :: rest)) := by
  subst hck
  obtain ⟨r0, r, hnI, hrm, hstR, hsigR⟩ := Cond.declares_spec hdecl
  obtain ⟨cL, kL, r1, hcL, hkL, hiL, hfoundL, hn1⟩ := Cond.interfaceMethod_spec hface
  cases hnI.symm.trans hn1
  have hr0cls : r0.cls = cL := Option.some.inj ((findClass_of_methodNamed hnI).symm.trans hcL)
  obtain ⟨hnameR, hdescR⟩ := name_of_methodNamed hnI hrm
  obtain ⟨-, -, -, -, -, -, -, iface', -, -, -, -, found, -, -, -, -, -, hi', -, -, -, -, -, -, hfound', -, -, -, -, -, -, -, -, -, -, hsel⟩ := Jvm.Lambda.isMade_spec hmade
  rw [hif] at hi'
  cases hcL.symm.trans hi'
  have hfrd : found = r0 := by
    have h1 : s.methodFound? xI.cls xI.name xI.desc = some r0 := hfoundL
    have hcL' : s.vm.findClass xI.cls = some cL := hcL
    simp only [State.methodFound?, hcL', hkL, hiL, Option.bind_eq_bind, Option.bind_some] at h1
    rw [hnm, hds] at hfound'
    have h2 : ((methodIn cL xI.name xI.desc true none).ask { classPath := fun _ => none } s.vm).1 = .ok found := hfound'
    rw [h2] at h1
    exact Option.some.inj h1
  subst hfrd
  obtain ⟨i2, hi2, hasg, hway⟩ := State.lambdaCallable_spec hcan
  rw [hif] at hi2
  cases hcL.symm.trans hi2
  obtain ⟨k, tk, file, mkF, co, toy, t9, g1, g2, g3, g4, g5, -, -, -, -, -, g11, -⟩ := hIs s.vm (State.WarmedH.refl _)
  intro T hT X
  have hselP : selectMethod e.platform s.vm cell.cls found = .method ⟨cell.cls, 1⟩ := by rw [Launch.admits_selectMethod X.admits]; exact hsel
  obtain ⟨vm₁, X₁, hstep₁⟩ := X.invokeinterface hx ho (hts _ hlink) hnI hrm hstR (by rw [hr0cls]; exact hkL) hiL hxI (a := a) (cell := cell) (kcell := k) (by rw [hT]; exact hcell) (fun z h => by rw [hvm] at h; cases h) g1 (by rw [hr0cls]; exact hasg) hselP g5 (by rw [hnameR, hdescR, ← hnm, ← hds]; exact hway) (by rw [g11]; decide) (by simp [Method.isAbstract, g11, hasFlag, Acc.abstract])
    (g := F0 m pc ls (As.reverse ++ .ref a :: rest)) rfl (argsL := As) (rest := rest) (by rw [hsigR] at hn; exact hAs.trans (Option.some.inj hn).symm) rfl (by rw [hb]; exact hdg)
  obtain ⟨k₁, tk₁, file₁, mk₁, co₁, toy₁, t₁, j1, j2, -, -, j5, j6, j7, j8, -, j10, -, j12, -⟩ := hIs vm₁ X₁.warmed
  have hpk : (T.setVm vm₁).plainMethod ⟨cell.cls, 1⟩ := State.plainMethod.of_name (fun k' hk' => by cases j1.symm.trans hk'; rw [j2]; decide)
  have hdg2 : decode c.code pc = .ok (.invokeinterface idx count, 5) := by rw [hb]; exact hdg
  obtain ⟨Y₀, hin⟩ := X₁.into (g := F0 m pc ls rest) rfl (hsz.trans hml.symm) hdg2 (Value.ref a :: As).toArray (R' := rm) j5 j6 j10 hpk hfr (by rw [j8]; exact Nat.le_trans (Nat.add_le_add_right (Nat.add_le_add_right (lv_room hW) _) _) hlo) (by rw [hrc]; exact hc0) (by rw [hrs]; exact hs0)
  obtain ⟨t, hst, o, hrun, hend, hq, L, hfe, hL⟩ := body ((T.setVm vm₁).calling (F0 m pc ls rest) ⟨cell.cls, 1⟩ (Value.ref a :: As).toArray) (.java (F0 m pc ls rest) :: below) mk₁ co₁ hT X₁.warmed j7 j8 j12 j10 (((T.setVm vm₁).setTop (F0 m pc ls rest)).pushFrame (.java (entryFrame ⟨cell.cls, 1⟩ (Value.ref a :: As).toArray co₁.maxLocals))) rfl Y₀
  obtain ⟨⟨v', rfl⟩, hW2, hsame⟩ := id hfe
  obtain ⟨hv, hh⟩ := hq
  cases hv
  have hLn : L = [] := by
    cases L with
    | nil => rfl
    | cons a b => exact absurd (hL a List.mem_cons_self) id
  subst hLn
  obtain ⟨T', X', -, -, ht⟩ := X₁.outOf (g := F0 m pc ls rest) rfl hdg2 hend hW2 hsame
  rw [List.append_nil] at X'
  have hheap : T'.heap = H := by
    have h1 : t.heap = T'.heap := by rw [ht]; rfl
    rw [← h1, hh]; exact hT
  obtain ⟨t2, a1, b1⟩ := kk T' hheap X'
  refine ⟨t2, hstep₁ t2 (fun acts => ?_), b1⟩
  have hin' := hin acts
  refine Steps.trans ?_ a1
  have : (T'.setTop (F0 m (pc + 5) ls (v :: rest))) = t := ht.symm
  rw [this]
  show Steps p.tables e below (doInvoke e ((T.setVm vm₁).setTop (F0 m pc ls rest)) acts ⟨cell.cls, 1⟩ (Value.ref a :: As).toArray).1 t
  rw [hin']
  rw [j8] at hst ⊢
  exact Steps.weaken (mid := [.java (F0 m pc ls rest)]) hst
end LD

/-! Read-only contracts beside a lambda's object; bodies whose method is named (call sites of lambdas) -/
set_option maxRecDepth 100000
def rl_Pc (As : List Value) (G : va_G) (ai : Nat → ClassId) (s0 : State) (w0 : va_W) (sz q : Nat) (lc : Cell) : Array Value → State → Prop := fun a U => va_Pc As (gz_B G ai s0 w0 sz) a U ∧ U.heap[q]? = some lc
theorem rl_blind {As : List Value} {G : va_G} {ai : Nat → ClassId} {s0 : State} {ws : va_W} {sz q : Nat} {lc : Cell} : FrameBlind (rl_Pc As G ai s0 ws sz q lc) := by
  intro a U g mk h
  exact ⟨gz_blind a U g mk h.1, h.2⟩
def rl_Met (l : Launch) (G : va_G) (ai : Nat → ClassId) (s0 : State) (y : MethodName) (cc : ByteArray) (nL : Nat) (ret : Option FieldType) (rm : Room) (As : List Value) (w0 : va_W) (q : Nat) (lc : Cell) (v : Value) : Prop :=
  ∀ sz, Met l y (ws_ y cc nL ret) rm (rl_Pc As G ai s0 w0 sz q lc) (rd_Q v) 0 0 (fun _ => False)
theorem rl_body {y : MethodName} {cc : ByteArray} {nL : Nat} {ret : Option FieldType} {rm : Room} {l : Launch} {G : va_G} {ai : Nat → ClassId} {s0 : State} {As : List Value} {w0 : va_W} {q9 : Nat} {lc : Cell} {v : Value} (hy : plainName y.cls = true) (hn : (lg_sl As).length ≤ nL)
    (hbody : ∀ (p : Program) (e : Env) (s : State) (m : MethodId) (args : Array Value) (below : List Frame) (meth : Method) (c : Code) (A : Nat → Prop) (ls : Array Slot), mo_C p rm s m args meth c G ai A y.cls cc nL rm.frames rm.locals rm.cells rm.slots → mo_Z s0 A s → meth.sig.returnType = ret → mo_I G A s.heap w0 s.heap [] → lv_has ls nL (lv_args 0 As) → s.heap[q9]? = some lc →
      W p l e rm s m args below meth c s.heap [] 0 0 (MQ below (rd_Q v) args s 0 0 (fun _ => False)) (F0 m 0 ls [])) :
    rl_Met l G ai s0 y cc nL ret rm As w0 q9 lc v := by
  intro sz
  refine Met.ofW (cc := cc) (maxL := nL) (ret := ret) hy rfl ?_
  intro p e s m args below meth c s₁ B hml hv
  obtain ⟨⟨rfl, ⟨hsz, hP, hK, hD0⟩, z1, z2, z3, z4⟩, hq9⟩ := hv
  have hts := atoms_spec (ws := ws_ y cc nL ret) B.pre
  have hts : ∀ w ∈ lw_all, w.before _ s = true := fun w h => hts w (List.mem_cons_of_mem _ h)
  have hown : s.vm.findClass y.cls = some m.cls := findClass_of_methodNamed B.named
  subst hsz
  have hD := hD0.self (sz := s.heap.size)
  have hl := lv_entry As (n := nL) hn
  rw [lg_entry_eq]
  refine hbody p e s m _ below meth c _ _ ⟨B.exec, B.bytes, hml, hown, hts, B.notSynchronized, hK, fun q h => Or.inr h, Nat.le_refl _, Nat.le_refl _, Nat.le_refl _, Nat.le_refl _⟩ ⟨z1, z2, z3, ?_⟩ B.returns ⟨hP, hD, va_S.rf⟩ hl hq9
  rintro q (⟨k, e, h⟩ | h)
  · exact z4 q ⟨e, List.mem_of_getElem? h⟩
  · exact Nat.le_trans z2 h
theorem gz_bodyN {y : MethodName} {cc : ByteArray} {nL : Nat} {ret : Option FieldType} {rm : Room} {l : Launch} {G : va_G} {ai : Nat → ClassId} {s0 : State} {As : List Value} {w0 : va_W} {Qc : (Nat → Prop) → Array Value → State → Outcome → State → Prop} {fr : (Nat → Prop) → Addr → Prop} {mc ms : Nat} (hy : plainName y.cls = true) (hn : (lg_sl As).length ≤ nL)
    (hbody : ∀ (p : Program) (e : Env) (s : State) (m : MethodId) (args : Array Value) (below : List Frame) (meth : Method) (c : Code) (A : Nat → Prop) (ls : Array Slot), mo_C p rm s m args meth c G ai A y.cls cc nL rm.frames rm.locals rm.cells rm.slots → mo_Z s0 A s → meth.sig.returnType = ret → mo_I G A s.heap w0 s.heap [] → lv_has ls nL (lv_args 0 As) → s.methodNamed? y = some m →
      W p l e rm s m args below meth c s.heap [] 0 0 (MQ below (Qc A) args s mc ms (fr A)) (F0 m 0 ls [])) :
    ∀ sz, Met l y (ws_ y cc nL ret) rm (va_Pc As (gz_B G ai s0 w0 sz)) (Qc (va_A w0 sz)) mc ms (fr (va_A w0 sz)) := by
  intro sz
  refine Met.ofW (cc := cc) (maxL := nL) (ret := ret) hy rfl ?_
  intro p e s m args below meth c s₁ B hml hv
  obtain ⟨rfl, ⟨hsz, hP, hK, hD0⟩, z1, z2, z3, z4⟩ := hv
  have hts := atoms_spec (ws := ws_ y cc nL ret) B.pre
  have hts : ∀ w ∈ lw_all, w.before _ s = true := fun w h => hts w (List.mem_cons_of_mem _ h)
  have hown : s.vm.findClass y.cls = some m.cls := findClass_of_methodNamed B.named
  subst hsz
  have hD := hD0.self (sz := s.heap.size)
  have hl := lv_entry As (n := nL) hn
  rw [lg_entry_eq]
  refine hbody p e s m _ below meth c _ _ ⟨B.exec, B.bytes, hml, hown, hts, B.notSynchronized, hK, fun q h => Or.inr h, Nat.le_refl _, Nat.le_refl _, Nat.le_refl _, Nat.le_refl _⟩ ⟨z1, z2, z3, ?_⟩ B.returns ⟨hP, hD, va_S.rf⟩ hl B.named
  rintro q (⟨k, e, h⟩ | h)
  · exact z4 q ⟨e, List.mem_of_getElem? h⟩
  · exact Nat.le_trans z2 h
theorem xz_bodyN {y : MethodName} {cc : ByteArray} {nL : Nat} {ret : Option FieldType} {rm : Room} {l : Launch} {G : va_G} {ai : Nat → ClassId} {s0 : State} {As : List Value} {w0 : va_W} {Qc : (Nat → Prop) → Array Value → State → Outcome → State → Prop} {mx : MX} {Wd : (Nat → Nat) → va_W} {mc ms : Nat} (hy : plainName y.cls = true) (hn : (lg_sl As).length ≤ nL)
    (hbody : ∀ (p : Program) (e : Env) (s : State) (m : MethodId) (args : Array Value) (below : List Frame) (meth : Method) (c : Code) (A : Nat → Prop) (ls : Array Slot), mo_C p rm s m args meth c G ai A y.cls cc nL rm.frames rm.locals rm.cells rm.slots → mo_Z s0 A s → meth.sig.returnType = ret → mo_I G A s.heap w0 s.heap [] → lv_has ls nL (lv_args 0 As) → (∀ x ∈ c.exceptionTable.toList, False) → s.methodNamed? y = some m →
      W p l e rm s m args below meth c s.heap [] 0 0 (vy_MQ below (Qc A) (xq_X G ai Wd mx A) args s mc ms A) (F0 m 0 ls [])) :
    xz_Met l G ai s0 y cc nL ret rm As w0 Qc mx Wd mc ms := by
  intro sz
  refine vy_ofW (cc := cc) (maxL := nL) (ret := ret) hy rfl ?_
  intro p e s m args below meth c s₁ B hml hxt hv
  obtain ⟨rfl, ⟨hsz, hP, hK, hD0⟩, z1, z2, z3, z4⟩ := hv
  have hts := atoms_spec (ws := ws_ y cc nL ret) B.pre
  have hts : ∀ w ∈ lw_all, w.before _ s = true := fun w h => hts w (List.mem_cons_of_mem _ h)
  have hown : s.vm.findClass y.cls = some m.cls := findClass_of_methodNamed B.named
  subst hsz
  have hD := hD0.self (sz := s.heap.size)
  have hl := lv_entry As (n := nL) hn
  rw [lg_entry_eq]
  refine hbody p e s m _ below meth c _ _ ⟨B.exec, B.bytes, hml, hown, hts, B.notSynchronized, hK, fun q h => Or.inr h, Nat.le_refl _, Nat.le_refl _, Nat.le_refl _, Nat.le_refl _⟩ ⟨z1, z2, z3, ?_⟩ B.returns ⟨hP, hD, va_S.rf⟩ hl hxt B.named
  rintro q (⟨k, e, h⟩ | h)
  · exact z4 q ⟨e, List.mem_of_getElem? h⟩
  · exact Nat.le_trans z2 h

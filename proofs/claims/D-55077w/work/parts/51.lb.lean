/-! Lambdas in a walk: making the object; the forwarder's rows; a call through the interface -/
set_option maxRecDepth 100000
theorem la_at {s0 : State} {b0 : Addr} (h0 : mo_S0 s0 b0) {x : MethodName} {pc idx : Nat} {σ : Jvm.Lambda.Shape} (hq : Cond.lambdaSite x pc idx σ ∈ flatC (Jvm.Cond.and given_1 narrow_1)) (hcap : σ.captured ≠ []) :
    ∃ (m0 : MethodId) (k : Class) (cf : Jvm.ClassFile.ClassFile) (i0 p0 : Nat) (cK : ClassId), s0.lambdaAt? x pc idx σ = some (cK, none) ∧ s0.methodNamed? x = some m0 ∧ s0.vm.classes[m0.cls]? = some k ∧ k.cf = some cf ∧ Jvm.Lambda.shapeOf? cf idx = some σ ∧
      (k.callSites.find? fun y => y.1 == m0.idx && y.2.1 == pc) = some (i0, p0, .makes cK) ∧ Jvm.Lambda.isMade laE s0.vm m0.cls σ cK = true ∧ s0.lambdaCallable σ cK = true := by
  obtain ⟨cK, one, h⟩ := Cond.lambdaSite_spec (mo_leaf h0 hq)
  obtain ⟨m0, k, cf, i0, p0, lk, h1, h2, h3, h4, -, h6, h7, h8, h9⟩ := State.lambdaAt?_spec h
  rcases h9 with ⟨a, cell, -, -, e, -⟩ | ⟨e1, e2, -⟩
  · exact absurd e hcap
  · subst e1; subst e2
    exact ⟨m0, k, cf, i0, p0, cK, h, h1, h2, h3, h4, h6, h7, h8⟩
def laK (s0 : State) (x : MethodName) (pc idx : Nat) (σ : Jvm.Lambda.Shape) : ClassId := match s0.lambdaAt? x pc idx σ with
  | some (c, _) => c
  | none => 0
theorem la_O {s0 : State} {b0 : Addr} (h0 : mo_S0 s0 b0) {vm : Vm} (hW : s0.WarmedH vm) : ∀ o ok, vm.findClass "java/lang/Object" = some o → vm.classes[o]? = some ok → ok.instanceTypes.size = 0 := by
  intro o ok h1 h2
  obtain ⟨c, k, g1, g2, -, -, -, g6⟩ := Cond.instantiable_spec (h0.1 _ (lw_all_tbl q2497))
  rw [hW.alike.findClass] at h1
  cases g1.symm.trans h1
  obtain ⟨k', hk', he⟩ := hW.alike.2.2 _ _ g2
  cases hk'.symm.trans h2
  rw [he]; exact g6
/-- what a site's words give at every later table -/
theorem la_later {s0 : State} {b0 : Addr} (h0 : mo_S0 s0 b0) {x : MethodName} {pc idx : Nat} {σ : Jvm.Lambda.Shape} (hq : Cond.lambdaSite x pc idx σ ∈ flatC (Jvm.Cond.and given_1 narrow_1)) (hcap : σ.captured ≠ []) (hx : x.cls = "MossLawn") {vm : Vm} (hW : s0.WarmedH vm) :
    ∃ (m0 : MethodId) (dk : Class), vm.classes[m0.cls]? = some dk ∧ dk.name = "MossLawn" ∧ Jvm.Lambda.isMade laE vm m0.cls σ (laK s0 x pc idx σ) = true := by
  obtain ⟨m0, k, cf, i0, p0, cK, h, h1, h2, h3, h4, h6, h7, h8⟩ := la_at h0 hq hcap
  have e : laK s0 x pc idx σ = cK := by unfold laK; rw [h]
  rw [e]
  obtain ⟨k1, hk1, hn1⟩ := className_of_methodNamed h1
  cases hk1.symm.trans h2
  obtain ⟨k', hk', he⟩ := hW.alike.2.2 _ _ h2
  exact ⟨m0, k', hk', by rw [he]; exact hn1.trans hx, Jvm.Lambda.isMade_warmer hW h7⟩
theorem la_can {s0 : State} {b0 : Addr} (h0 : mo_S0 s0 b0) {x : MethodName} {pc idx : Nat} {σ : Jvm.Lambda.Shape} (hq : Cond.lambdaSite x pc idx σ ∈ flatC (Jvm.Cond.and given_1 narrow_1)) (hcap : σ.captured ≠ []) {s : State} (hW : s0.WarmedH s.vm) : s.lambdaCallable σ (laK s0 x pc idx σ) = true := by
  obtain ⟨m0, k, cf, i0, p0, cK, h, h1, h2, h3, h4, h6, h7, h8⟩ := la_at h0 hq hcap
  have e : laK s0 x pc idx σ = cK := by unfold laK; rw [h]
  rw [e]
  have hA := hW.alike
  simp only [State.lambdaCallable, hA.findClass, hA.assignable, hA.superclasses, hA.declaredIn] at h8 ⊢
  exact h8
section LB
variable {p : Program} {l : Launch} {e : Env} {R : Room} {s s0 : State} {b0 : Addr} {m : MethodId} {args : Array Value} {below : List Frame} {meth : Method} {c : Code} {H : Heap} {locs : List Loc} {cells slots : Nat} {Q : State → Prop} {pc : Nat} {ls : Array Slot} {rest : List Value} {G : va_G} {ai : Nat → ClassId} {A : Nat → Prop} {cc own0 : String} {nL f L kc ks : Nat}
theorem la_make {cc : ByteArray} {ws : va_W} {x : MethodName} {idx : Nat} {σ : Jvm.Lambda.Shape} {D : Jvm.ClassFile.ClassFile} {fs : Array Field} {ow : Array Jvm.ClassFile.FieldType} {cc' : ByteArray} {nL' : Nat} {vals : List Value} (hC : mo_C p R s m args meth c G ai A RX0 cc nL f L kc ks) (h0 : mo_S0 s0 b0) (hZ : mo_Z s0 A s)
    (hq : Cond.lambdaSite x pc idx σ ∈ flatC (Jvm.Cond.and given_1 narrow_1)) (hcap : σ.captured ≠ []) (hnm : s.methodNamed? x = some m) (hIs : ∀ vm, s0.WarmedH vm → la_Is σ D fs ow cc' nL' vm (laK s0 x pc idx σ)) (hI : mo_I G A s.heap ws H locs)
    (hsz : ls.size = nL) (hlen : vals.length = σ.captured.length) (hcat : ((vals.reverse ++ rest).map fun v => v.category).sum + 3072 ≤ L)
    (hnar : ((ow.toList.zip vals).map fun (t, v) => narrow t v) = vals) (hfit : ∀ (i : Nat) v, vals.toArray[i]? = some v → ∃ t, ow[i]? = some t ∧ fits t v = true) (hdg : decode cc pc = .ok (.invokedynamic idx, 5)) (hc0 : cells + 1 ≤ kc) (hs0 : slots + vals.length ≤ ks)
    (kk : ∀ (q : Nat) (H1 : Heap), H1[q]? = some { cls := laK s0 x pc idx σ, slots := vals.toArray, vm := .none } → H.size ≤ q → mo_I G A s.heap ws H1 locs → W p l e R s m args below meth c H1 locs (cells + 1) (slots + vals.length) Q (F0 m (pc + 5) ls (.ref q :: rest))) :
    W p l e R s m args below meth c H locs cells slots Q (F0 m pc ls (vals.reverse ++ rest)) := by
  obtain ⟨hx, hb, hml, ho, hts, hlk, hK, hA, hRf, hRl, hRc, hRs⟩ := hC
  obtain ⟨m0, k, cf, i0, p0, cK, h, h1, h2, h3, h4, h6, h7, h8⟩ := la_at h0 hq hcap
  have e9 : laK s0 x pc idx σ = cK := by unfold laK; rw [h]
  rw [e9] at hIs kk
  have hm : m0 = m := by
    have h9 := State.methodNamed?_setVm (s := s0) hZ.1.alike x
    rw [h1] at h9
    exact Option.some.inj (h9.symm.trans hnm)
  subst hm
  obtain ⟨k', hk', he⟩ := hZ.1.alike.2.2 _ _ h2
  obtain ⟨kc9, tk, file, mk, co, toy, t, g1, -, -, -, -, -, -, -, -, -, -, -, -, -, -, -, -, ⟨g18, g19⟩, -⟩ := hIs s.vm hZ.1
  obtain ⟨b, nt, name, desc, sig, j1, j2, j3, j4⟩ := la_site h4
  intro T hT X
  have hpl : e.platform.lambdaLinkWords = 3072 := by rw [X.admits.platform]
  have hslots : ((kc9.instanceTypes.toList.zip vals).map fun (t, v) => narrow t v) = vals := by rw [g18]; exact hnar
  obtain ⟨X', st⟩ := X.lambdaMakes hx (g := F0 m0 pc ls (vals.reverse ++ rest)) rfl (hsz.trans hml.symm) (index := idx) (by rw [hb]; exact hdg) (k := k') (kc := kc9) (cf := cf) (i0 := i0) (p0 := p0) (cK := cK) hk' (by rw [he]; exact h6) (by rw [he]; exact h3) j1 j2 (Jvm.ClassFile.parseLong_of_parse j3) (vals := vals) (rest := rest) (by rw [j4]; exact hlen) rfl g1
    (by rw [hpl]; exact Nat.le_trans (show 2 * 0 + ((vals.reverse ++ rest).map fun v => v.category).sum + 3072 ≤ L by omega) hRl) (Nat.le_trans hc0 hRc) (by rw [hslots]; exact Nat.le_trans hs0 hRs)
    (by
      intro i v hv
      rw [hslots] at hv
      obtain ⟨t9, q1, q2⟩ := hfit i v hv
      unfold State.fitsSlot State.slotType?
      rw [g1]
      simp only [Option.bind_eq_bind, Option.bind_some, g19, g18, q1, q2])
  rw [hslots] at X' st
  have hI' : mo_I G A s.heap ws (T.pushCell { cls := cK, slots := vals.toArray, vm := .none }).heap locs := by
    obtain ⟨hP, hD, hS⟩ := hI
    have o1 : ∀ q, q < H.size → (T.pushCell { cls := cK, slots := vals.toArray, vm := .none }).heap[q]? = H[q]? := fun q hq => by
      show (T.heap.push _)[q]? = _
      rw [hT, Array.getElem?_push, if_neg (by omega)]
    refine ⟨hP.kept (fun k9 x9 hx9 => o1 x9.1 ((hP k9 x9 hx9).lt)), hD, ⟨Nat.le_trans hS.1 (by show _ ≤ (T.heap.push _).size; rw [hT, Array.size_push]; omega), fun q h5 h6 => (o1 q (Nat.lt_of_lt_of_le h5 hS.1)).trans (hS.2.1 q h5 h6), hS.2.2⟩⟩
  obtain ⟨t2, a1, b1⟩ := kk T.heap.size _ (by show (T.heap.push _)[T.heap.size]? = _; simp) (by rw [hT]; exact Nat.le_refl _) hI' _ rfl X'
  exact ⟨t2, st t2 a1, b1⟩
end LB

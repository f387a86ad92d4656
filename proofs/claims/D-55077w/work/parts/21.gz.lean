/-! The class's side: contracts over a start state s0 whose cells are never written; read-only contracts; contracts that return or throw -/
set_option maxRecDepth 100000
def mo_S0 (s0 : State) (b : Addr) : Prop := (∀ w ∈ lw_tbl, w.before #[Value.ref b] s0 = true) ∧ (Jvm.Cond.and given_1 narrow_1).before #[Value.ref b] s0 = true
/-- s stands behind s0: warmer tables, the old cells as they were, none of them to be written -/
def mo_Z (s0 : State) (A : Nat → Prop) (s : State) : Prop := s0.WarmedH s.vm ∧ s0.heap.size ≤ s.heap.size ∧ (∀ q : Nat, q < s0.heap.size → s.heap[q]? = s0.heap[q]?) ∧ ∀ q : Nat, A q → s0.heap.size ≤ q
def gz_B (G : va_G) (ai : Nat → ClassId) (s0 : State) (ws : va_W) (sz : Nat) (U : State) : Prop := gw_B G ai ws sz U ∧ mo_Z s0 (fun q => ∃ e : va_E, (q, e) ∈ ws) U
theorem gz_blind {As : List Value} {G : va_G} {ai : Nat → ClassId} {s0 : State} {ws : va_W} {sz : Nat} : FrameBlind (va_Pc As (gz_B G ai s0 ws sz)) := by
  intro a U g mk q
  obtain ⟨q0, ⟨q1, qP, qK, qD⟩, z1, z2, z3, z4⟩ := q
  exact ⟨q0, ⟨q1, qP, va_K.moved (u := U) (U := U.calling g mk a) (Vm.Alike.refl U.vm) qK, qD⟩, z1, z2, z3, z4⟩
section GZ
variable {p : Program} {l : Launch} {e : Env} {R : Room} {s s0 : State} {m : MethodId} {args : Array Value} {below : List Frame} {meth : Method} {c : Code} {H : Heap} {locs : List Loc} {cells slots : Nat} {Q : State → Prop}
variable {pc : Nat} {ls : Array Slot} {rest st0 : List Value} {G : va_G} {ai : Nat → ClassId} {A : Nat → Prop} {own : String} {cc : ByteArray} {nL f L kc ks : Nat}
theorem mo_Zold {q : Nat} (hZ : mo_Z s0 A s) (hS : va_S A s.heap H locs) (hq : q < s0.heap.size) : H[q]? = s0.heap[q]? := by
  obtain ⟨z1, z2, z3, z4⟩ := hZ
  rw [hS.2.1 q (Nat.lt_of_lt_of_le hq z2) (fun h => absurd (z4 q h) (by omega)), z3 q hq]
theorem gz_pre {As : List Value} {w0 wr : va_W} (hC : mo_C p R s m args meth c G ai A own cc nL f L kc ks) (hZ : mo_Z s0 A s) (hI : mo_I G A s.heap (w0 ++ wr) H locs) : ∀ U : State, U.heap = H → s.WarmedH U.vm → va_Pc As (gz_B G ai s0 w0 H.size) As.toArray U := by
  intro U hU hW
  have hK := hC.2.2.2.2.2.2.1
  have hS := hI.2.2
  have hD := mo_Dleft hI.2.1
  refine ⟨rfl, ⟨by rw [hU], by rw [hU]; exact mo_Pleft hI.1, va_K.moved hW.alike hK, hD.weaken (fun _ _ _ _ => trivial)⟩, State.WarmedH.trans hZ.1 hW, ?_, ?_, ?_⟩
  · rw [hU]; exact Nat.le_trans hZ.2.1 hS.1
  · intro q hq
    rw [hU]
    exact mo_Zold hZ hS hq
  · rintro q ⟨e, he⟩
    exact hZ.2.2.2 q ((mo_Dnd.mp hD).2 (q, e) he)
end GZ
def gz_E {σ : Type} (G : va_G) (ai : Nat → ClassId) (Wd : σ → va_W) (A : Nat → Prop) (u : σ) (t : State) : Prop := gw_E G ai Wd A u t
def rd_Q (v : Value) : Array Value → State → Outcome → State → Prop := fun _ st oc t => oc = .returned (some v) ∧ t.heap = st.heap
def rd_Met (l : Launch) (G : va_G) (ai : Nat → ClassId) (s0 : State) (y : MethodName) (cc : ByteArray) (nL : Nat) (ret : Option FieldType) (rm : Room) (As : List Value) (w0 : va_W) (v : Value) : Prop :=
  ∀ sz, Met l y (ws_ y cc nL ret) rm (va_Pc As (gz_B G ai s0 w0 sz)) (rd_Q v) 0 0 (fun _ => False)
def rv_Q : Array Value → State → Outcome → State → Prop := fun _ st oc t => oc = .returned none ∧ t.heap = st.heap
/-- read-only, nothing comes back -/
def rv_Met (l : Launch) (G : va_G) (ai : Nat → ClassId) (s0 : State) (y : MethodName) (cc : ByteArray) (nL : Nat) (rm : Room) (As : List Value) (w0 : va_W) : Prop :=
  ∀ sz, Met l y (ws_ y cc nL none) rm (va_Pc As (gz_B G ai s0 w0 sz)) rv_Q 0 0 (fun _ => False)
def gz_Mi {σ : Type} (l : Launch) (G : va_G) (ai : Nat → ClassId) (s0 : State) (Wd : σ → va_W) (y : MethodName) (cc : ByteArray) (nL : Nat) (ret : Option FieldType) (rm : Room) (As : List Value) (w0 : va_W) (post : Int32 → σ → Prop) (mc ms : Nat) : Prop :=
  ∀ sz, Met l y (ws_ y cc nL ret) rm (va_Pc As (gz_B G ai s0 w0 sz)) (va_Qi post (gw_E G ai Wd (va_A w0 sz)) (va_A w0 sz)) mc ms (va_A w0 sz)
def gz_Mv {σ : Type} (l : Launch) (G : va_G) (ai : Nat → ClassId) (s0 : State) (Wd : σ → va_W) (y : MethodName) (cc : ByteArray) (nL : Nat) (rm : Room) (As : List Value) (w0 : va_W) (post : σ → Prop) (mc ms : Nat) : Prop :=
  ∀ sz, Met l y (ws_ y cc nL none) rm (va_Pc As (gz_B G ai s0 w0 sz)) (va_Qv post (gw_E G ai Wd (va_A w0 sz)) (va_A w0 sz)) mc ms (va_A w0 sz)
/-- a cell comes back: its address is in the state u -/
def gz_Mr {σ : Type} (l : Launch) (G : va_G) (ai : Nat → ClassId) (s0 : State) (Wd : σ → va_W) (y : MethodName) (cc : ByteArray) (nL : Nat) (ret : Option FieldType) (rm : Room) (As : List Value) (w0 : va_W) (post : Nat → σ → Prop) (mc ms : Nat) : Prop :=
  ∀ sz, Met l y (ws_ y cc nL ret) rm (va_Pc As (gz_B G ai s0 w0 sz)) (va_Qr (S := σ) (fun _ => True) (fun u ra t => post ra u ∧ gw_E G ai Wd (va_A w0 sz) u t) (va_A w0 sz)) mc ms (va_A w0 sz)
section GZ2
variable {p : Program} {l : Launch} {e : Env} {R : Room} {s s0 : State} {m : MethodId} {args : Array Value} {below : List Frame} {meth : Method} {c : Code} {H : Heap} {locs : List Loc} {cells slots : Nat} {Q : State → Prop}
variable {pc : Nat} {ls : Array Slot} {rest st0 : List Value} {G : va_G} {ai : Nat → ClassId} {A : Nat → Prop} {own : String} {cc : ByteArray} {nL f L kc ks : Nat}
/-- behind a read-only call -/
theorem rd_use {v : Value} {a : Array Value} (hr : va_Run p l e R s m args below meth c H locs cells slots 0 0 (F0 m pc ls st0) rest (rd_Q v a) (fun _ => False)) (kk : W p l e R s m args below meth c H locs cells slots Q (F0 m (pc + 3) ls (v :: rest))) : W p l e R s m args below meth c H locs cells slots Q (F0 m pc ls st0) := pu_call (a := a) hr kk
theorem rv_use {a : Array Value} (hr : va_Run p l e R s m args below meth c H locs cells slots 0 0 (F0 m pc ls st0) rest (rv_Q a) (fun _ => False)) (kk : W p l e R s m args below meth c H locs cells slots Q (F0 m (pc + 3) ls rest)) : W p l e R s m args below meth c H locs cells slots Q (F0 m pc ls st0) := by
  intro T hT X
  obtain ⟨v', st₀, t, T', L, h0, X', hL, e1, e2, ⟨hv, hh⟩, st⟩ := hr T hT X
  cases hv
  have hLn : L = [] := by
    cases L with
    | nil => rfl
    | cons a b => exact absurd (hL a List.mem_cons_self) id
  subst hLn
  rw [List.append_nil] at X'
  obtain ⟨t2, a1, b1⟩ := kk T' (by rw [e1, hh, h0]) X'
  exact ⟨t2, st t2 a1, b1⟩
theorem gz_usei {σ : Type} {Wd : σ → va_W} {w0 wr : va_W} {post : Int32 → σ → Prop} {a : Array Value} {mc ms : Nat} (hA : ∀ q, s.heap.size ≤ q → A q) (hI : mo_I G A s.heap (w0 ++ wr) H locs)
    (hr : va_Run p l e R s m args below meth c H locs cells slots mc ms (F0 m pc ls st0) rest (va_Qi post (gw_E G ai Wd (va_A w0 H.size)) (va_A w0 H.size) a) (va_A w0 H.size))
    (kk : ∀ (r : Int32) (u : σ) (H1 : Heap) (locs1 : List Loc), post r u → mo_I G A s.heap (Wd u ++ wr) H1 locs1 → W p l e R s m args below meth c H1 locs1 (cells + mc) (slots + ms) Q (F0 m (pc + 3) ls (.int r :: rest))) : W p l e R s m args below meth c H locs cells slots Q (F0 m pc ls st0) := by
  have hFc := mo_free hI hA
  refine va_calli hr hI.2.2 (fun q _ h => hFc q h) hFc (fun r u t H1 locs1 ht hvm hw hB hz hk hS => ?_)
  obtain ⟨hP1, hK1, hD1⟩ := hB
  rw [ht] at hP1
  exact kk r u H1 locs1 hw (mo_join hI hA hk hP1 hD1 hS)
theorem gz_usev {σ : Type} {Wd : σ → va_W} {w0 wr : va_W} {post : σ → Prop} {a : Array Value} {mc ms : Nat} (hA : ∀ q, s.heap.size ≤ q → A q) (hI : mo_I G A s.heap (w0 ++ wr) H locs)
    (hr : va_Run p l e R s m args below meth c H locs cells slots mc ms (F0 m pc ls st0) rest (va_Qv post (gw_E G ai Wd (va_A w0 H.size)) (va_A w0 H.size) a) (va_A w0 H.size))
    (kk : ∀ (u : σ) (H1 : Heap) (locs1 : List Loc), post u → mo_I G A s.heap (Wd u ++ wr) H1 locs1 → W p l e R s m args below meth c H1 locs1 (cells + mc) (slots + ms) Q (F0 m (pc + 3) ls rest)) : W p l e R s m args below meth c H locs cells slots Q (F0 m pc ls st0) := by
  have hFc := mo_free hI hA
  refine va_callv hr hI.2.2 (fun q _ h => hFc q h) hFc (fun u t H1 locs1 ht hvm hw hB hz hk hS => ?_)
  obtain ⟨hP1, hK1, hD1⟩ := hB
  rw [ht] at hP1
  exact kk u H1 locs1 hw (mo_join hI hA hk hP1 hD1 hS)
theorem gz_user {σ : Type} {Wd : σ → va_W} {w0 wr : va_W} {post : Nat → σ → Prop} {a : Array Value} {mc ms : Nat} (hA : ∀ q, s.heap.size ≤ q → A q) (hI : mo_I G A s.heap (w0 ++ wr) H locs)
    (hr : va_Run p l e R s m args below meth c H locs cells slots mc ms (F0 m pc ls st0) rest (va_Qr (S := σ) (fun _ => True) (fun u ra t => post ra u ∧ gw_E G ai Wd (va_A w0 H.size) u t) (va_A w0 H.size) a) (va_A w0 H.size))
    (kk : ∀ (ra : Nat) (u : σ) (H1 : Heap) (locs1 : List Loc), post ra u → mo_I G A s.heap (Wd u ++ wr) H1 locs1 → W p l e R s m args below meth c H1 locs1 (cells + mc) (slots + ms) Q (F0 m (pc + 3) ls (.ref ra :: rest))) : W p l e R s m args below meth c H locs cells slots Q (F0 m pc ls st0) := by
  have hFc := mo_free hI hA
  refine va_callr hr hI.2.2 (fun q _ h => hFc q h) hFc (fun u ra t H1 locs1 ht hvm _ hB hz hk hS => ?_)
  obtain ⟨hw, hP1, hK1, hD1⟩ := hB
  rw [ht] at hP1
  exact kk ra u H1 locs1 hw (mo_join hI hA hk hP1 hD1 hS)
end GZ2
/-- a contract by the walk of its body, s0 at hand -/
theorem gz_body {y : MethodName} {cc : ByteArray} {nL : Nat} {ret : Option FieldType} {rm : Room} {l : Launch} {G : va_G} {ai : Nat → ClassId} {s0 : State} {As : List Value} {w0 : va_W} {Qc : (Nat → Prop) → Array Value → State → Outcome → State → Prop} {fr : (Nat → Prop) → Addr → Prop} {mc ms : Nat} (hy : plainName y.cls = true) (hn : (lg_sl As).length ≤ nL)
    (hbody : ∀ (p : Program) (e : Env) (s : State) (m : MethodId) (args : Array Value) (below : List Frame) (meth : Method) (c : Code) (A : Nat → Prop) (ls : Array Slot), mo_C p rm s m args meth c G ai A y.cls cc nL rm.frames rm.locals rm.cells rm.slots → mo_Z s0 A s → meth.sig.returnType = ret → mo_I G A s.heap w0 s.heap [] → lv_has ls nL (lv_args 0 As) → meth.name = y.name →
      W p l e rm s m args below meth c s.heap [] 0 0 (MQ below (Qc A) args s mc ms (fr A)) (F0 m 0 ls [])) :
    ∀ sz, Met l y (ws_ y cc nL ret) rm (va_Pc As (gz_B G ai s0 w0 sz)) (Qc (va_A w0 sz)) mc ms (fr (va_A w0 sz)) := by
  intro sz
  refine Met.ofW (cc := cc) (maxL := nL) (ret := ret) hy rfl ?_
  intro p e s m args below meth c s₁ B hml hv
  obtain ⟨rfl, ⟨hsz, hP, hK, hD0⟩, z1, z2, z3, z4⟩ := hv
  have hts := atoms_spec (ws := ws_ y cc nL ret) B.pre
  have hts : ∀ w ∈ lw_all, w.before _ s = true := fun w h => hts w (List.mem_cons_of_mem _ h)
  have hown : s.vm.findClass y.cls = some m.cls := findClass_of_methodNamed B.named
  subst hsz
  have hD := hD0.self (sz := s.heap.size)
  have hl := lv_entry As (n := nL) hn
  rw [lg_entry_eq]
  refine hbody p e s m _ below meth c _ _ ⟨B.exec, B.bytes, hml, hown, hts, B.notSynchronized, hK, fun q h => Or.inr h, Nat.le_refl _, Nat.le_refl _, Nat.le_refl _, Nat.le_refl _⟩ ⟨z1, z2, z3, ?_⟩ B.returns ⟨hP, hD, va_S.rf⟩ hl (name_of_methodNamed B.named B.method).1
  rintro q (⟨k, e, h⟩ | h)
  · exact z4 q ⟨e, List.mem_of_getElem? h⟩
  · exact Nat.le_trans z2 h
section GZ3
variable {p : Program} {l : Launch} {e : Env} {R : Room} {s s0 : State} {m : MethodId} {args : Array Value} {below : List Frame} {meth : Method} {c : Code} {H : Heap} {locs : List Loc} {cells slots : Nat} {Q : State → Prop}
variable {pc : Nat} {ls : Array Slot} {rest st0 : List Value} {G : va_G} {ai : Nat → ClassId} {A : Nat → Prop} {own : String} {cc : ByteArray} {nL f L kc ks : Nat}
/-- ends of read-only methods -/
theorem rd_iret {v : Int32} {ty : FieldType} (hC : mo_C p R s m args meth c G ai A own cc nL f L kc ks) (hr : meth.sig.returnType = some ty) (hn : narrow ty (.int v) = .int v) (hdg : decode cc pc = .ok (.ireturn, 1)) :
    W p l e R s m args below meth c s.heap [] 0 0 (MQ below (rd_Q (.int v)) args s 0 0 (fun _ => False)) (F0 m pc ls [.int v]) :=
  W.zret hC.1 hC.2.1 hr hn (fun t ht hW => ⟨rfl, ht⟩) (fun q hq => by cases hq) hdg hC.2.2.2.2.2.1
theorem rd_aret {v : Value} {ty : FieldType} (hC : mo_C p R s m args meth c G ai A own cc nL f L kc ks) (hr : meth.sig.returnType = some ty) (hrt : (∃ n, ty = .object n) ∨ ∃ t, ty = .array t) (hv : v = .null ∨ ∃ a, v = .ref a) (hdg : decode cc pc = .ok (.areturn, 1)) :
    W p l e R s m args below meth c s.heap [] 0 0 (MQ below (rd_Q v) args s 0 0 (fun _ => False)) (F0 m pc ls [v]) :=
  W.aret hC.1 hC.2.1 hr hrt hv (fun t ht hW => ⟨rfl, ht⟩) (fun q hq => by cases hq) hdg hC.2.2.2.2.2.1
theorem rd_vret (hC : mo_C p R s m args meth c G ai A own cc nL f L kc ks) (hr : meth.sig.returnType = none) (hdg : decode cc pc = .ok (.return_, 1)) :
    W p l e R s m args below meth c s.heap [] 0 0 (MQ below rv_Q args s 0 0 (fun _ => False)) (F0 m pc ls []) :=
  W.vret hC.1 hC.2.1 hr (fun t ht hW => ⟨rfl, ht⟩) (fun q hq => by cases hq) hdg hC.2.2.2.2.2.1
end GZ3

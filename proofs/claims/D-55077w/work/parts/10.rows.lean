/-! The one list of classes and array classes; the walk's standing facts (mo_C), a world and its frame (mo_I); calls that keep a world -/
set_option maxRecDepth 100000
def TX4 : u_T := fun _ => ("", "", "", false)
def mo_cl : List vw_C := [(RX9, TX9, 22), (RX0, TX0, 21), (RX1, TX1, 19), (RX2, TX2, 5), (RX3, TX3, 3), (RX4, TX4, 0), (RX5, TX4, 0), (RX6, TX4, 0), (RX7, TX4, 0), (RX10, TX10, 7), (RX11, TX11, 8), (RX12, TX12, 4), (RX13, TX13, 6), (RJ0, TJ0, 3), (RJ4, TJ4, 4), (RJ11, TJ11, 2), (RJ13, TJ13, 4), (RJ16, TJ16, 3), (RJ22, TJ22, 3), (RJ27, TJ27, 4)]
def mo_ty (ai : Nat → ClassId) : List (ClassId × FieldType) := [(ai 0, .int), (ai 1, .long), (ai 2, .byte), (ai 3, .object "java/lang/Object"), (ai 4, .object RX2), (ai 5, .object RX3), (ai 6, .object RX1), (ai 7, .object "MossLawn$Done")]
def mo_C (p : Program) (R : Room) (s : State) (m : MethodId) (args : Array Value) (meth : Method) (c : Code) (G : va_G) (ai : Nat → ClassId) (A : Nat → Prop) (own : String) (cc : ByteArray) (nL f L kc ks : Nat) : Prop :=
  p.tables.exec = Jvm.exec ∧ c.code = cc ∧ c.maxLocals = nL ∧ s.vm.findClass own = some m.cls ∧ (∀ w ∈ lw_all, w.before args s = true) ∧ meth.locks = false ∧ va_K G mo_cl (mo_ty ai) s ∧ (∀ q, s.heap.size ≤ q → A q) ∧ f ≤ R.frames ∧ L ≤ R.locals ∧ kc ≤ R.cells ∧ ks ≤ R.slots
/-- .. without a world: enough for methods of numbers alone -/
def mo_N (p : Program) (R : Room) (s : State) (m : MethodId) (args : Array Value) (meth : Method) (c : Code) (own : String) (cc : ByteArray) (nL f L : Nat) : Prop :=
  p.tables.exec = Jvm.exec ∧ c.code = cc ∧ c.maxLocals = nL ∧ s.vm.findClass own = some m.cls ∧ (∀ w ∈ lw_all, w.before args s = true) ∧ meth.locks = false ∧ f ≤ R.frames ∧ L ≤ R.locals
theorem mo_CN {p : Program} {R : Room} {s : State} {m : MethodId} {args : Array Value} {meth : Method} {c : Code} {G : va_G} {ai : Nat → ClassId} {A : Nat → Prop} {own : String} {cc : ByteArray} {nL f L kc ks : Nat} (hC : mo_C p R s m args meth c G ai A own cc nL f L kc ks) : mo_N p R s m args meth c own cc nL f L := by
  obtain ⟨hx, hb, hml, hown, hts, hlk, hK, hA, hRf, hRl, hRc, hRs⟩ := hC
  exact ⟨hx, hb, hml, hown, hts, hlk, hRf, hRl⟩
def mo_I (G : va_G) (A : Nat → Prop) (H0 : Heap) (ws : va_W) (H : Heap) (locs : List Loc) : Prop := va_P G mo_cl ws H ∧ va_D A ws ∧ va_S A H0 H locs
theorem mo_Pperm {G : va_G} {cl : List vw_C} {a b : va_W} {H : Heap} (hp : List.Perm a b) (h : va_P G cl a H) : va_P G cl b H := by
  intro k q hk
  obtain ⟨i, hi⟩ := List.getElem?_of_mem (hp.mem_iff.mpr (List.mem_of_getElem? hk))
  exact h i q hi
theorem mo_Dnd {A : Nat → Prop} {a : va_W} : va_D A a ↔ (a.map Prod.fst).Nodup ∧ ∀ q ∈ a, A q.1 := by
  constructor
  · rintro ⟨h1, h2⟩
    refine ⟨?_, fun q hq => ?_⟩
    · rw [List.nodup_iff_pairwise_ne, List.pairwise_iff_getElem]
      intro i j hi hj hij hne
      have hj' : j < a.length := by simpa using hj
      have hi' : i < a.length := by omega
      have := h1 i j _ _ (List.getElem?_eq_getElem hi') (List.getElem?_eq_getElem hj') (by simpa using hne)
      omega
    · obtain ⟨i, hi⟩ := List.getElem?_of_mem hq
      exact h2 i q hi
  · rintro ⟨h1, h2⟩
    refine ⟨fun i j x y hx hy hxy => ?_, fun k q hk => h2 q (List.mem_of_getElem? hk)⟩
    have hi := (List.getElem?_eq_some_iff.mp hx).1
    exact (List.getElem?_inj (by simpa using hi) h1).mp (by rw [List.getElem?_map, List.getElem?_map, hx, hy]; simp [hxy])
theorem mo_Dperm {A : Nat → Prop} {a b : va_W} (hp : List.Perm a b) (h : va_D A a) : va_D A b := by
  rw [mo_Dnd] at h ⊢
  exact ⟨(hp.map Prod.fst).nodup_iff.mp h.1, fun q hq => h.2 q (hp.mem_iff.mpr hq)⟩
theorem mo_Iperm {G : va_G} {A : Nat → Prop} {H0 H : Heap} {a b : va_W} {locs : List Loc} (hp : List.Perm a b) (h : mo_I G A H0 a H locs) : mo_I G A H0 b H locs := ⟨mo_Pperm hp h.1, mo_Dperm hp h.2.1, h.2.2⟩
theorem mo_Pleft {G : va_G} {cl : List vw_C} {a b : va_W} {H : Heap} (h : va_P G cl (a ++ b) H) : va_P G cl a H := by
  intro k q hk
  obtain ⟨i, hi⟩ := List.getElem?_of_mem (List.mem_append_left b (List.mem_of_getElem? hk))
  exact h i q hi
theorem mo_Pright {G : va_G} {cl : List vw_C} {a b : va_W} {H : Heap} (h : va_P G cl (a ++ b) H) : va_P G cl b H := by
  intro k q hk
  obtain ⟨i, hi⟩ := List.getElem?_of_mem (List.mem_append_right a (List.mem_of_getElem? hk))
  exact h i q hi
theorem mo_Dleft {A : Nat → Prop} {a b : va_W} (h : va_D A (a ++ b)) : va_D A a := by
  rw [mo_Dnd] at h ⊢
  rw [List.map_append] at h
  exact ⟨(List.nodup_append.mp h.1).1, fun q hq => h.2 q (List.mem_append_left b hq)⟩
theorem mo_Dright {A : Nat → Prop} {a b : va_W} (h : va_D A (a ++ b)) : va_D A b := by
  rw [mo_Dnd] at h ⊢
  rw [List.map_append] at h
  exact ⟨(List.nodup_append.mp h.1).2.1, fun q hq => h.2 q (List.mem_append_right a hq)⟩
/-- behind a call: what the callee's world has become, beside the rest -/
theorem mo_join {G : va_G} {A : Nat → Prop} {H0 H H1 : Heap} {a b w1 : va_W} {locs locs1 : List Loc} (hI : mo_I G A H0 (a ++ b) H locs) (hA : ∀ q, H0.size ≤ q → A q) (hk : ∀ q : Nat, q < H.size → ¬ va_A a H.size q → H1[q]? = H[q]?) (hP1 : va_P G mo_cl w1 H1) (hD1 : va_D (va_A a H.size) w1) (hS1 : va_S A H0 H1 locs1) : mo_I G A H0 (w1 ++ b) H1 locs1 := by
  obtain ⟨hP, hD, hS⟩ := hI
  have hF : ∀ q, va_A a H.size q → A q := by
    intro q h
    rcases h with ⟨k, e, h⟩ | h
    · exact (mo_Dleft hD).2 k (q, e) h
    · exact hA q (Nat.le_trans hS.1 h)
  have hap : ∀ (q : Nat × va_E), q ∈ b → q.1 < H.size ∧ ¬ va_A a H.size q.1 := by
    intro q hq
    obtain ⟨i, hi⟩ := List.getElem?_of_mem hq
    have hl := (mo_Pright hP i q hi).lt
    refine ⟨hl, fun h => ?_⟩
    rcases h with ⟨k, e, h⟩ | h
    · have h1 := (mo_Dnd.mp hD).1
      rw [List.map_append] at h1
      exact (List.nodup_append.mp h1).2.2 q.1 (List.mem_map.mpr ⟨(q.1, e), List.mem_of_getElem? h, rfl⟩) q.1 (List.mem_map.mpr ⟨q, hq, rfl⟩) rfl
    · omega
  refine ⟨va_P.app hP1 (fun k q hq => ?_), va_D.app (hD1.weaken fun k q _ h => hF q.1 h) (mo_Dright hD) (fun i j x y hx hy hxy => ?_), hS1⟩
  · obtain ⟨g1, g2⟩ := hap q (List.mem_of_getElem? hq)
    exact (mo_Pright hP k q hq).kept (hk q.1 g1 g2)
  · exact (hap y (List.mem_of_getElem? hy)).2 (by rw [← hxy]; exact hD1.2 i x hx)
theorem mo_free {G : va_G} {A : Nat → Prop} {H0 H : Heap} {a b : va_W} {locs : List Loc} (hI : mo_I G A H0 (a ++ b) H locs) (hA : ∀ q, H0.size ≤ q → A q) : ∀ q, va_A a H.size q → A q := by
  intro q h
  rcases h with ⟨k, e, h⟩ | h
  · exact (mo_Dleft hI.2.1).2 k (q, e) h
  · exact hA q (Nat.le_trans hI.2.2.1 h)
/-- a contract that keeps a world: its start, its end -/
def gw_B (G : va_G) (ai : Nat → ClassId) (ws : va_W) (sz : Nat) (U : State) : Prop := U.heap.size = sz ∧ va_P G mo_cl ws U.heap ∧ va_K G mo_cl (mo_ty ai) U ∧ va_D (fun _ => True) ws
def gw_E {σ : Type} (G : va_G) (ai : Nat → ClassId) (Wd : σ → va_W) (A : Nat → Prop) (u : σ) (t : State) : Prop := va_P G mo_cl (Wd u) t.heap ∧ va_K G mo_cl (mo_ty ai) t ∧ va_D A (Wd u)
def gw_Mi {σ : Type} (l : Launch) (G : va_G) (ai : Nat → ClassId) (Wd : σ → va_W) (y : MethodName) (cc : ByteArray) (nL : Nat) (ret : Option FieldType) (rm : Room) (As : List Value) (w0 : va_W) (post : Int32 → σ → Prop) (mc ms : Nat) : Prop :=
  ∀ sz, Met l y (ws_ y cc nL ret) rm (va_Pc As (gw_B G ai w0 sz)) (va_Qi post (gw_E G ai Wd (va_A w0 sz)) (va_A w0 sz)) mc ms (va_A w0 sz)
def gw_Mv {σ : Type} (l : Launch) (G : va_G) (ai : Nat → ClassId) (Wd : σ → va_W) (y : MethodName) (cc : ByteArray) (nL : Nat) (rm : Room) (As : List Value) (w0 : va_W) (post : σ → Prop) (mc ms : Nat) : Prop :=
  ∀ sz, Met l y (ws_ y cc nL none) rm (va_Pc As (gw_B G ai w0 sz)) (va_Qv post (gw_E G ai Wd (va_A w0 sz)) (va_A w0 sz)) mc ms (va_A w0 sz)
/-- a static method of numbers alone -/
def pu_Met (l : Launch) (y : MethodName) (cc : ByteArray) (nL : Nat) (ret : Option FieldType) (rm : Room) (As : List Value) (v : Value) : Prop :=
  Met l y (ws_ y cc nL ret) rm (fun a _ => a = As.toArray) (fun _ st oc t => oc = .returned (some v) ∧ t.heap = st.heap) 0 0 (fun _ => False)
theorem gw_blind {As : List Value} {G : va_G} {ai : Nat → ClassId} {ws : va_W} {sz : Nat} : FrameBlind (va_Pc As (gw_B G ai ws sz)) := by
  intro a U g mk q
  obtain ⟨q0, q1, qP, qK, qD⟩ := q
  exact ⟨q0, q1, qP, va_K.moved (u := U) (U := U.calling g mk a) (Vm.Alike.refl U.vm) qK, qD⟩
section MORows
variable {p : Program} {l : Launch} {e : Env} {R : Room} {s : State} {m : MethodId} {args : Array Value} {below : List Frame} {meth : Method} {c : Code} {H : Heap} {locs : List Loc} {cells slots : Nat} {Q : State → Prop}
variable {pc : Nat} {ls : Array Slot} {rest st0 : List Value} {G : va_G} {ai : Nat → ClassId} {A : Nat → Prop} {own : String} {cc : ByteArray} {nL f L kc ks : Nat}
theorem pu_call {v : Value} {st0 : List Value} {a : Array Value} (hr : va_Run p l e R s m args below meth c H locs cells slots 0 0 (F0 m pc ls st0) rest (fun st oc t => oc = .returned (some v) ∧ t.heap = st.heap) (fun _ => False)) (kk : W p l e R s m args below meth c H locs cells slots Q (F0 m (pc + 3) ls (v :: rest))) : W p l e R s m args below meth c H locs cells slots Q (F0 m pc ls st0) := by
  intro T hT X
  obtain ⟨v', st₀, t, T', L, h0, X', hL, e1, e2, ⟨hv, hh⟩, st⟩ := hr T hT X
  cases hv
  have hLn : L = [] := by
    cases L with
    | nil => rfl
    | cons a b => exact absurd (hL a List.mem_cons_self) id
  subst hLn
  rw [List.append_nil] at X'
  obtain ⟨t2, a1, b1⟩ := kk T' (by rw [e1, hh, h0]) X'
  exact ⟨t2, st t2 a1, b1⟩
theorem pu_cS (hC : mo_N p R s m args meth c own cc nL f L) {y : MethodName} {cc' : ByteArray} {nL' : Nat} {ret : Option FieldType} {rm : Room} {As : List Value} {v : Value} {index : Nat} (n : Nat) (hM : pu_Met l y cc' nL' ret rm As v)
    (h1 : Cond.methodLink own index y ∈ lw_all) (h2 : Cond.static y ∈ lw_all) (h3 : Cond.initialized y.cls ∈ lw_all) (h4 : Cond.code y cc' nL' ret ∈ lw_all) (hrc : rm.cells = 0) (hrs : rm.slots = 0)
    (hd : y.cls ≠ "java/lang/invoke/MethodHandle" ∧ y.cls ≠ "java/lang/invoke/VarHandle" ∧ (parseMethodDescriptor y.desc).map (fun d => d.parameters.length) = some n) (hn : As.length = n) (hf : rm.frames + 1 ≤ f) (hL : 8 + (nL' + 11) + rm.locals ≤ L)
    (hc0 : cells ≤ R.cells) (hs0 : slots ≤ R.slots) (hsz : ls.size = nL) (hst : st0 = As.reverse ++ rest) (hW : (rest.map fun v => v.category).sum ≤ 8) (hdg : decode cc pc = .ok (.invokestatic index, 3))
    (kk : W p l e R s m args below meth c H locs cells slots Q (F0 m (pc + 3) ls (v :: rest))) : W p l e R s m args below meth c H locs cells slots Q (F0 m pc ls st0) := by
  obtain ⟨hx, hb, hml, hown, hts, hlk, hRf, hRl⟩ := hC
  refine pu_call (a := As.toArray) (va_runS (As := As) (rest := rest) ⟨hx, hb, hml, hown, hts⟩ hM (va_cwS n hts (lw_S h1 h2 h3 h4) rfl hrc hrs hd ⟨Nat.le_trans hf hRf, Nat.le_trans hL hRl⟩) ⟨fun a U g mk q => q, fun U hU hW => rfl⟩ rfl hn hsz hst (lv_room hW) hdg ⟨hc0, hs0⟩) kk
/-- the end of a method of numbers alone -/
theorem pu_iret {v : Int32} {ty : FieldType} (hC : mo_N p R s m args meth c own cc nL f L) (hr : meth.sig.returnType = some ty) (hn : narrow ty (.int v) = .int v) (hdg : decode cc pc = .ok (.ireturn, 1)) :
    W p l e R s m args below meth c s.heap [] 0 0 (MQ below (fun _ st oc t => oc = .returned (some (.int v)) ∧ t.heap = st.heap) args s 0 0 (fun _ => False)) (F0 m pc ls [.int v]) :=
  W.zret hC.1 hC.2.1 hr hn (fun t ht hW => ⟨rfl, ht⟩) (fun q hq => by cases hq) hdg hC.2.2.2.2.2.1
/-- a call through an object, an int comes back; the caller's world is the callee's beside the rest -/
theorem gw_cVi {σ : Type} (hC : mo_C p R s m args meth c G ai A own cc nL f L kc ks) {Wd : σ → va_W} {y : MethodName} {cc' : ByteArray} {nL' : Nat} {ret : Option FieldType} {rm : Room} {As : List Value} {b : Nat} {w0 wr : va_W} {post : Int32 → σ → Prop} {mc ms index : Nat} (n : Nat)
    (hI : mo_I G A s.heap (w0 ++ wr) H locs) (hM : gw_Mi l G ai Wd y cc' nL' ret rm (.ref b :: As) w0 post mc ms) (q0 ci : Nat) {q : vw_C} {fs : List Value} (he : w0[q0]? = some (b, .inr (ci, fs))) (hc : mo_cl[ci]? = some q)
    (h1 : Cond.methodLink own index y ∈ lw_all) (h2 : Cond.instanceMethod y ∈ lw_all) (h3 : Cond.selects q.1 y y ∈ lw_all) (h4 : Cond.initialized q.1 ∈ lw_all) (h5 : Cond.code y cc' nL' ret ∈ lw_all) (hrc : rm.cells = mc) (hrs : rm.slots = ms)
    (hd : y.cls = q.1 ∧ y.cls ≠ "java/lang/invoke/MethodHandle" ∧ y.cls ≠ "java/lang/invoke/VarHandle" ∧ (parseMethodDescriptor y.desc).map (fun d => d.parameters.length) = some n) (hn : As.length = n) (hf : rm.frames + 1 ≤ f) (hL : 8 + (nL' + 11) + rm.locals ≤ L)
    (hc0 : cells + mc ≤ kc) (hs0 : slots + ms ≤ ks) (hsz : ls.size = nL) (hst : st0 = As.reverse ++ .ref b :: rest) (hW : (rest.map fun v => v.category).sum ≤ 8) (hdg : decode cc pc = .ok (.invokevirtual index, 3))
    (kk : ∀ (r : Int32) (u : σ) (H1 : Heap) (locs1 : List Loc), post r u → mo_I G A s.heap (Wd u ++ wr) H1 locs1 → W p l e R s m args below meth c H1 locs1 (cells + mc) (slots + ms) Q (F0 m (pc + 3) ls (.int r :: rest))) : W p l e R s m args below meth c H locs cells slots Q (F0 m pc ls st0) := by
  obtain ⟨hx, hb, hml, hown, hts, hlk, hK, hA, hRf, hRl, hRc, hRs⟩ := hC
  have hFc := mo_free hI hA
  have hPc := mo_Pleft hI.1
  refine va_calli (va_runV (As := As) (rest := rest) ⟨hx, hb, hml, hown, hts⟩ (hM H.size) (cwV n hts (lw_V h1 h2 h3 h4 h5) rfl hrc hrs hd ⟨Nat.le_trans hf hRf, Nat.le_trans hL hRl⟩) ⟨gw_blind, va_recv hK hPc (ci := ci) (q0 := q0) hc he, fun U hU hW => ⟨rfl, by rw [hU], by rw [hU]; exact hPc, va_K.moved hW.alike hK, (mo_Dleft hI.2.1).weaken (fun _ _ _ _ => trivial)⟩⟩ rfl hn hsz hst (lv_room hW) hdg ⟨Nat.le_trans hc0 hRc, Nat.le_trans hs0 hRs⟩) hI.2.2 (fun q _ h => hFc q h) hFc (fun r u t H1 locs1 ht hvm hw hB hz hk hS => ?_)
  obtain ⟨hP1, hK1, hD1⟩ := hB
  rw [ht] at hP1
  exact kk r u H1 locs1 hw (mo_join hI hA hk hP1 hD1 hS)
theorem gw_cVv {σ : Type} (hC : mo_C p R s m args meth c G ai A own cc nL f L kc ks) {Wd : σ → va_W} {y : MethodName} {cc' : ByteArray} {nL' : Nat} {rm : Room} {As : List Value} {b : Nat} {w0 wr : va_W} {post : σ → Prop} {mc ms index : Nat} (n : Nat)
    (hI : mo_I G A s.heap (w0 ++ wr) H locs) (hM : gw_Mv l G ai Wd y cc' nL' rm (.ref b :: As) w0 post mc ms) (q0 ci : Nat) {q : vw_C} {fs : List Value} (he : w0[q0]? = some (b, .inr (ci, fs))) (hc : mo_cl[ci]? = some q)
    (h1 : Cond.methodLink own index y ∈ lw_all) (h2 : Cond.instanceMethod y ∈ lw_all) (h3 : Cond.selects q.1 y y ∈ lw_all) (h4 : Cond.initialized q.1 ∈ lw_all) (h5 : Cond.code y cc' nL' none ∈ lw_all) (hrc : rm.cells = mc) (hrs : rm.slots = ms)
    (hd : y.cls = q.1 ∧ y.cls ≠ "java/lang/invoke/MethodHandle" ∧ y.cls ≠ "java/lang/invoke/VarHandle" ∧ (parseMethodDescriptor y.desc).map (fun d => d.parameters.length) = some n) (hn : As.length = n) (hf : rm.frames + 1 ≤ f) (hL : 8 + (nL' + 11) + rm.locals ≤ L)
    (hc0 : cells + mc ≤ kc) (hs0 : slots + ms ≤ ks) (hsz : ls.size = nL) (hst : st0 = As.reverse ++ .ref b :: rest) (hW : (rest.map fun v => v.category).sum ≤ 8) (hdg : decode cc pc = .ok (.invokevirtual index, 3))
    (kk : ∀ (u : σ) (H1 : Heap) (locs1 : List Loc), post u → mo_I G A s.heap (Wd u ++ wr) H1 locs1 → W p l e R s m args below meth c H1 locs1 (cells + mc) (slots + ms) Q (F0 m (pc + 3) ls rest)) : W p l e R s m args below meth c H locs cells slots Q (F0 m pc ls st0) := by
  obtain ⟨hx, hb, hml, hown, hts, hlk, hK, hA, hRf, hRl, hRc, hRs⟩ := hC
  have hFc := mo_free hI hA
  have hPc := mo_Pleft hI.1
  refine va_callv (va_runV (As := As) (rest := rest) ⟨hx, hb, hml, hown, hts⟩ (hM H.size) (cwV n hts (lw_V h1 h2 h3 h4 h5) rfl hrc hrs hd ⟨Nat.le_trans hf hRf, Nat.le_trans hL hRl⟩) ⟨gw_blind, va_recv hK hPc (ci := ci) (q0 := q0) hc he, fun U hU hW => ⟨rfl, by rw [hU], by rw [hU]; exact hPc, va_K.moved hW.alike hK, (mo_Dleft hI.2.1).weaken (fun _ _ _ _ => trivial)⟩⟩ rfl hn hsz hst (lv_room hW) hdg ⟨Nat.le_trans hc0 hRc, Nat.le_trans hs0 hRs⟩) hI.2.2 (fun q _ h => hFc q h) hFc (fun u t H1 locs1 ht hvm hw hB hz hk hS => ?_)
  obtain ⟨hP1, hK1, hD1⟩ := hB
  rw [ht] at hP1
  exact kk u H1 locs1 hw (mo_join hI hA hk hP1 hD1 hS)
theorem gw_cSv {σ : Type} (hC : mo_C p R s m args meth c G ai A own cc nL f L kc ks) {Wd : σ → va_W} {y : MethodName} {cc' : ByteArray} {nL' : Nat} {rm : Room} {As : List Value} {w0 wr : va_W} {post : σ → Prop} {mc ms index : Nat} (n : Nat)
    (hI : mo_I G A s.heap (w0 ++ wr) H locs) (hM : gw_Mv l G ai Wd y cc' nL' rm As w0 post mc ms)
    (h1 : Cond.methodLink own index y ∈ lw_all) (h2 : Cond.static y ∈ lw_all) (h3 : Cond.initialized y.cls ∈ lw_all) (h5 : Cond.code y cc' nL' none ∈ lw_all) (hrc : rm.cells = mc) (hrs : rm.slots = ms)
    (hd : y.cls ≠ "java/lang/invoke/MethodHandle" ∧ y.cls ≠ "java/lang/invoke/VarHandle" ∧ (parseMethodDescriptor y.desc).map (fun d => d.parameters.length) = some n) (hn : As.length = n) (hf : rm.frames + 1 ≤ f) (hL : 8 + (nL' + 11) + rm.locals ≤ L)
    (hc0 : cells + mc ≤ kc) (hs0 : slots + ms ≤ ks) (hsz : ls.size = nL) (hst : st0 = As.reverse ++ rest) (hW : (rest.map fun v => v.category).sum ≤ 8) (hdg : decode cc pc = .ok (.invokestatic index, 3))
    (kk : ∀ (u : σ) (H1 : Heap) (locs1 : List Loc), post u → mo_I G A s.heap (Wd u ++ wr) H1 locs1 → W p l e R s m args below meth c H1 locs1 (cells + mc) (slots + ms) Q (F0 m (pc + 3) ls rest)) : W p l e R s m args below meth c H locs cells slots Q (F0 m pc ls st0) := by
  obtain ⟨hx, hb, hml, hown, hts, hlk, hK, hA, hRf, hRl, hRc, hRs⟩ := hC
  have hFc := mo_free hI hA
  have hPc := mo_Pleft hI.1
  refine va_callv (va_runS (As := As) (rest := rest) ⟨hx, hb, hml, hown, hts⟩ (hM H.size) (va_cwS n hts (lw_S h1 h2 h3 h5) rfl hrc hrs hd ⟨Nat.le_trans hf hRf, Nat.le_trans hL hRl⟩) ⟨gw_blind, fun U hU hW => ⟨rfl, by rw [hU], by rw [hU]; exact hPc, va_K.moved hW.alike hK, (mo_Dleft hI.2.1).weaken (fun _ _ _ _ => trivial)⟩⟩ rfl hn hsz hst (lv_room hW) hdg ⟨Nat.le_trans hc0 hRc, Nat.le_trans hs0 hRs⟩) hI.2.2 (fun q _ h => hFc q h) hFc (fun u t H1 locs1 ht hvm hw hB hz hk hS => ?_)
  obtain ⟨hP1, hK1, hD1⟩ := hB
  rw [ht] at hP1
  exact kk u H1 locs1 hw (mo_join hI hA hk hP1 hD1 hS)
end MORows
theorem pu_body {y : MethodName} {cc : ByteArray} {nL : Nat} {ret : Option FieldType} {rm : Room} {l : Launch} {As : List Value} {v : Value} (hy : plainName y.cls = true) (hn : (lg_sl As).length ≤ nL)
    (hbody : ∀ (p : Program) (e : Env) (s : State) (m : MethodId) (args : Array Value) (below : List Frame) (meth : Method) (c : Code) (ls : Array Slot), mo_N p rm s m args meth c y.cls cc nL rm.frames rm.locals → meth.sig.returnType = ret → lv_has ls nL (lv_args 0 As) →
      W p l e rm s m args below meth c s.heap [] 0 0 (MQ below (fun _ st oc t => oc = .returned (some v) ∧ t.heap = st.heap) args s 0 0 (fun _ => False)) (F0 m 0 ls [])) : pu_Met l y cc nL ret rm As v := by
  refine Met.ofW (cc := cc) (maxL := nL) (ret := ret) hy rfl ?_
  intro p e s m args below meth c s₁ B hml hv
  subst hv
  have hts := atoms_spec (ws := ws_ y cc nL ret) B.pre
  have hts : ∀ w ∈ lw_all, w.before _ s = true := fun w h => hts w (List.mem_cons_of_mem _ h)
  have hown : s.vm.findClass y.cls = some m.cls := findClass_of_methodNamed B.named
  have hl := lv_entry As (n := nL) hn
  rw [lg_entry_eq]
  exact hbody p e s m _ below meth c _ ⟨B.exec, B.bytes, hml, hown, hts, B.notSynchronized, Nat.le_refl _, Nat.le_refl _⟩ B.returns hl

/-! Methods that return or throw one of the claim's exceptions: the answer MX says which -/
set_option maxRecDepth 100000
/-- .inl r: it returned r; .inr (.inl c): Wrong c; .inr (.inr (.inl ch)): Refused, with what stands behind it; else Fault -/
abbrev MX : Type := Int32 ⊕ (Int32 ⊕ (List (Int32 × Int32) ⊕ Unit))
abbrev mxO (r : Int32) : MX := .inl r
abbrev mxW (c : Int32) : MX := .inr (.inl c)
abbrev mxR (ch : List (Int32 × Int32)) : MX := .inr (.inr (.inl ch))
abbrev mxF : MX := .inr (.inr (.inr ()))
def isX : MX → Bool
  | .inl _ => false
  | .inr (.inr (.inl [])) => false
  | _ => true
def rf_C (cause : Value) (a b : Int32) : va_E := .inr (10, [cause, .null, .null, .null, .null, .int 0, .int a, .int b])
def rf_cause : List (Int32 × Int32) → Nat → Value
  | [], _ => .null
  | _ :: _, q => .ref q
/-- the cells of a chain of refusals, the outermost first -/
def ex_ch : List (Int32 × Int32) → (Nat → Nat) → va_W
  | [], _ => []
  | (a, b) :: r, da => (da 0, rf_C (rf_cause r (da 1)) a b) :: ex_ch r (fun i => da (i + 1))
def ex_W (mx : MX) (da : Nat → Nat) : va_W := match mx with
  | .inl _ => []
  | .inr (.inl c) => [(da 0, .inr (9, [.null, .null, .null, .null, .null, .int 0, .int c]))]
  | .inr (.inr (.inl ch)) => ex_ch ch da
  | .inr (.inr (.inr _)) => [(da 0, .inr (12, [.null, .null, .null, .null, .null, .int 0]))]
def ex_N : MX → String
  | .inl _ => ""
  | .inr (.inl _) => RX10
  | .inr (.inr (.inl _)) => RX11
  | .inr (.inr (.inr _)) => RX13
def xz_B (G : va_G) (ai : Nat → ClassId) (Wd : (Nat → Nat) → va_W) (mx : MX) (A : Nat → Prop) : String → (Nat → Nat) → Addr → State → Prop := fun E da q t => E = ex_N mx ∧ da 0 = q ∧ ∃ na : Nat → Nat, gw_E G ai (fun na => ex_W mx da ++ Wd na) A na t
abbrev xq_X (G : va_G) (ai : Nat → ClassId) (Wd : (Nat → Nat) → va_W) (mx : MX) (A : Nat → Prop) : String → Addr → State → State → Prop := vy_X (fun _ : Nat → Nat => isX mx = true) (xz_B G ai Wd mx A) A
abbrev xq_i (G : va_G) (ai : Nat → ClassId) (Wd : (Nat → Nat) → va_W) (mx : MX) (A : Nat → Prop) : Array Value → State → Outcome → State → Prop := va_Qi (fun (r : Int32) (_ : Nat → Nat) => mx = mxO r) (gw_E G ai Wd A) A
abbrev xq_v (G : va_G) (ai : Nat → ClassId) (Wd : (Nat → Nat) → va_W) (mx : MX) (A : Nat → Prop) : Array Value → State → Outcome → State → Prop := va_Qv (fun (_ : Nat → Nat) => mx = mxO 0) (gw_E G ai Wd A) A
abbrev xq_r (G : va_G) (ai : Nat → ClassId) (Wd : (Nat → Nat) → va_W) (mx : MX) (rv : Int32 → Nat) (A : Nat → Prop) : Array Value → State → Outcome → State → Prop := va_Qr (S := Nat → Nat) (fun _ => True) (fun na ra t => (∃ r, mx = mxO r ∧ ra = rv r) ∧ gw_E G ai Wd A na t) A
def xz_Met (l : Launch) (G : va_G) (ai : Nat → ClassId) (s0 : State) (y : MethodName) (cc : ByteArray) (nL : Nat) (ret : Option FieldType) (rm : Room) (As : List Value) (w0 : va_W) (Qc : (Nat → Prop) → Array Value → State → Outcome → State → Prop) (mx : MX) (Wd : (Nat → Nat) → va_W) (mc ms : Nat) : Prop :=
  ∀ sz, vy_Met l y (ws_ y cc nL ret) rm (va_Pc As (gz_B G ai s0 w0 sz)) (Qc (va_A w0 sz)) (xq_X G ai Wd mx (va_A w0 sz)) mc ms (va_A w0 sz)
def xg {σ τ : Type} (m : Option (MX × σ)) (put : σ → τ) (k : Int32 → σ → Option (MX × τ)) : Option (MX × τ) := match m with
  | none => none
  | some (.inl r, z) => k r z
  | some (e, z) => if isX e then some (e, put z) else none
theorem xg_some {σ τ : Type} {m : Option (MX × σ)} {put : σ → τ} {k : Int32 → σ → Option (MX × τ)} {R : MX × τ} (h : xg m put k = some R) : (∃ r z, m = some (mxO r, z) ∧ k r z = some R) ∨ ∃ ex z, isX ex = true ∧ m = some (ex, z) ∧ some (ex, put z) = some R := by
  unfold xg at h
  split at h
  · cases h
  · rename_i r z
    exact Or.inl ⟨r, z, rfl, h⟩
  · rename_i ex z _
    by_cases hx : isX ex = true
    · rw [if_pos hx] at h
      exact Or.inr ⟨ex, z, hx, rfl, h⟩
    · rw [if_neg hx] at h; cases h
section XZ
variable {p : Program} {l : Launch} {e : Env} {R : Room} {s s0 : State} {m : MethodId} {args : Array Value} {below : List Frame} {meth : Method} {c : Code} {H : Heap} {locs : List Loc} {cells slots : Nat} {Q : State → Prop}
variable {pc : Nat} {ls : Array Slot} {rest st0 : List Value} {G : va_G} {ai : Nat → ClassId} {A : Nat → Prop} {own : String} {cc : ByteArray} {nL f L kc ks : Nat}
theorem ex_head {mx : MX} (hx : isX mx = true) (da : Nat → Nat) (X : va_W) : ∃ (ci : Nat) (fs : List Value) (q : vw_C), mo_cl[ci]? = some q ∧ q.1 = ex_N mx ∧ (ex_W mx da ++ X)[0]? = some (da 0, .inr (ci, fs)) := by
  match mx, hx with
  | .inr (.inl c), _ => exact ⟨9, _, _, rfl, rfl, rfl⟩
  | .inr (.inr (.inl ((a, b) :: r))), _ => exact ⟨10, _, _, rfl, rfl, rfl⟩
  | .inr (.inr (.inr ())), _ => exact ⟨12, _, _, rfl, rfl, rfl⟩
theorem ex_cell {mx : MX} {da : Nat → Nat} {X : va_W} (hx : isX mx = true) (hK : va_K G mo_cl (mo_ty ai) s) (hP : va_P G mo_cl (ex_W mx da ++ X) H) : ∃ ce : Cell, H[da 0]? = some ce ∧ ce.vm = .none ∧ s.vm.findClass (ex_N mx) = some ce.cls := by
  obtain ⟨ci, fs, q, h1, h2, h3⟩ := ex_head hx da X
  obtain ⟨q', h1', cell, g1, g2, g3, -⟩ := hP 0 _ h3
  refine ⟨cell, g1, g3, ?_⟩
  rw [← h2, g2]
  exact (hK.1 ci q h1).2.1
/-- thrown, and nobody here catches -/
theorem xz_out {own0 : String} {mx : MX} {Wd : (Nat → Nat) → va_W} {na da : Nat → Nat} {Qc : Array Value → State → Outcome → State → Prop} {mc ms : Nat} (hC : mo_C p R s m args meth c G ai A own0 cc nL f L kc ks) (hxt : ∀ x ∈ c.exceptionTable.toList, False) (hI : mo_I G A s.heap (ex_W mx da ++ Wd na) H locs) (hx : isX mx = true) (hc : cells ≤ mc) (hs : slots ≤ ms) :
    vy_W p l e R s m args below meth c H locs cells slots (vy_MQ below Qc (xq_X G ai Wd mx A) args s mc ms A) (F0 m pc ls rest) (da 0) := by
  have hK := hC.2.2.2.2.2.2.1
  obtain ⟨ce, g1, g2, g3⟩ := ex_cell hx hK hI.1
  refine vy_out (fun x h => absurd h (fun h => hxt x h)) hC.2.2.2.2.2.1 g1 g2 g3 (fun t ht hW => ⟨da, hx, ⟨rfl, rfl, na, by rw [ht]; exact hI.1, va_K.moved hW hK, hI.2.1⟩, hI.2.2.F ht⟩) hI.2.2.2.2 hc hs
theorem xz_iret {own0 : String} {mx : MX} {Wd : (Nat → Nat) → va_W} {na : Nat → Nat} {v : Int32} {ty : FieldType} {mc ms : Nat} (hC : mo_C p R s m args meth c G ai A own0 cc nL f L kc ks) (hr : meth.sig.returnType = some ty) (hn : narrow ty (.int v) = .int v) (hI : mo_I G A s.heap (Wd na) H locs) (hm : mx = mxO v) (hc : cells ≤ mc) (hs : slots ≤ ms) (hdg : decode cc pc = .ok (.ireturn, 1)) :
    W p l e R s m args below meth c H locs cells slots (vy_MQ below (xq_i G ai Wd mx A) (xq_X G ai Wd mx A) args s mc ms A) (F0 m pc ls [.int v]) :=
  vy_ret (W.widen hc hs (W.zret hC.1 hC.2.1 hr hn (fun t ht hW => ⟨⟨v, na, rfl, hm, by rw [ht]; exact hI.1, va_K.moved hW.alike hC.2.2.2.2.2.2.1, hI.2.1⟩, hI.2.2.F ht⟩) hI.2.2.2.2 hdg hC.2.2.2.2.2.1))
theorem xz_vret {own0 : String} {mx : MX} {Wd : (Nat → Nat) → va_W} {na : Nat → Nat} {mc ms : Nat} (hC : mo_C p R s m args meth c G ai A own0 cc nL f L kc ks) (hr : meth.sig.returnType = none) (hI : mo_I G A s.heap (Wd na) H locs) (hm : mx = mxO 0) (hc : cells ≤ mc) (hs : slots ≤ ms) (hdg : decode cc pc = .ok (.return_, 1)) :
    W p l e R s m args below meth c H locs cells slots (vy_MQ below (xq_v G ai Wd mx A) (xq_X G ai Wd mx A) args s mc ms A) (F0 m pc ls []) :=
  vy_ret (W.widen hc hs (W.vret hC.1 hC.2.1 hr (fun t ht hW => ⟨⟨na, rfl, hm, by rw [ht]; exact hI.1, va_K.moved hW.alike hC.2.2.2.2.2.2.1, hI.2.1⟩, hI.2.2.F ht⟩) hI.2.2.2.2 hdg hC.2.2.2.2.2.1))
theorem xz_aret {own0 : String} {mx : MX} {Wd : (Nat → Nat) → va_W} {rv : Int32 → Nat} {na : Nat → Nat} {v : Int32} {a : Nat} {ty : FieldType} {mc ms : Nat} (hC : mo_C p R s m args meth c G ai A own0 cc nL f L kc ks) (hr : meth.sig.returnType = some ty) (hrt : (∃ n, ty = .object n) ∨ ∃ t, ty = .array t) (hI : mo_I G A s.heap (Wd na) H locs) (hm : mx = mxO v) (ha : a = rv v) (hc : cells ≤ mc) (hs : slots ≤ ms) (hdg : decode cc pc = .ok (.areturn, 1)) :
    W p l e R s m args below meth c H locs cells slots (vy_MQ below (xq_r G ai Wd mx rv A) (xq_X G ai Wd mx A) args s mc ms A) (F0 m pc ls [.ref a]) :=
  vy_ret (W.widen hc hs (W.aret hC.1 hC.2.1 hr hrt (Or.inr ⟨_, rfl⟩) (fun t ht hW => ⟨⟨na, a, rfl, trivial, ⟨v, hm, ha⟩, by rw [ht]; exact hI.1, va_K.moved hW.alike hC.2.2.2.2.2.2.1, hI.2.1⟩, hI.2.2.F ht⟩) hI.2.2.2.2 hdg hC.2.2.2.2.2.1))
/-- behind a call, where it has returned -/
theorem xz_usei {Wd : (Nat → Nat) → va_W} {w0 : va_W} {mx : MX} {r : Int32} {a : Array Value} {mc ms : Nat} (hA : ∀ q, s.heap.size ≤ q → A q) (hI : mo_I G A s.heap w0 H locs)
    (hr : vy_Run p l e R s m args below meth c H locs cells slots mc ms (F0 m pc ls st0) rest (xq_i G ai Wd mx (va_A w0 H.size) a) (xq_X G ai Wd mx (va_A w0 H.size)) (va_A w0 H.size)) (hm : mx = mxO r)
    (kk : ∀ (na : Nat → Nat) (H1 : Heap) (locs1 : List Loc), mo_I G A s.heap (Wd na) H1 locs1 → W p l e R s m args below meth c H1 locs1 (cells + mc) (slots + ms) Q (F0 m (pc + 3) ls (.int r :: rest))) : W p l e R s m args below meth c H locs cells slots Q (F0 m pc ls st0) := by
  have hI0 : mo_I G A s.heap (w0 ++ []) H locs := by rw [List.append_nil]; exact hI
  have hFc := mo_free hI0 hA
  subst hm
  refine vy_calli hr hI.2.2 (fun q _ h => hFc q h) hFc (fun q _ h => hFc q h) (fun E ce q9 u t H1 locs1 ht hvm hx _ _ _ _ _ _ _ => absurd hx (by simp [isX])) (fun r' na t H1 locs1 ht hvm hw hB hz hk hS => ?_)
  obtain ⟨hP1, hK1, hD1⟩ := hB
  cases hw
  rw [ht] at hP1
  have h9 := mo_join hI0 hA hk hP1 hD1 hS
  rw [List.append_nil] at h9
  exact kk na H1 locs1 h9
theorem xz_usev {Wd : (Nat → Nat) → va_W} {w0 : va_W} {mx : MX} {r : Int32} {a : Array Value} {mc ms : Nat} (hA : ∀ q, s.heap.size ≤ q → A q) (hI : mo_I G A s.heap w0 H locs)
    (hr : vy_Run p l e R s m args below meth c H locs cells slots mc ms (F0 m pc ls st0) rest (xq_v G ai Wd mx (va_A w0 H.size) a) (xq_X G ai Wd mx (va_A w0 H.size)) (va_A w0 H.size)) (hm : mx = mxO r)
    (kk : ∀ (na : Nat → Nat) (H1 : Heap) (locs1 : List Loc), mo_I G A s.heap (Wd na) H1 locs1 → W p l e R s m args below meth c H1 locs1 (cells + mc) (slots + ms) Q (F0 m (pc + 3) ls rest)) : W p l e R s m args below meth c H locs cells slots Q (F0 m pc ls st0) := by
  have hI0 : mo_I G A s.heap (w0 ++ []) H locs := by rw [List.append_nil]; exact hI
  have hFc := mo_free hI0 hA
  subst hm
  refine vy_callv hr hI.2.2 (fun q _ h => hFc q h) hFc (fun q _ h => hFc q h) (fun E ce q9 u t H1 locs1 ht hvm hx _ _ _ _ _ _ _ => absurd hx (by simp [isX])) (fun na t H1 locs1 ht hvm hw hB hz hk hS => ?_)
  obtain ⟨hP1, hK1, hD1⟩ := hB
  rw [ht] at hP1
  have h9 := mo_join hI0 hA hk hP1 hD1 hS
  rw [List.append_nil] at h9
  exact kk na H1 locs1 h9
theorem xz_user {Wd : (Nat → Nat) → va_W} {w0 : va_W} {mx : MX} {rv : Int32 → Nat} {r : Int32} {a : Array Value} {mc ms : Nat} (hA : ∀ q, s.heap.size ≤ q → A q) (hI : mo_I G A s.heap w0 H locs)
    (hr : vy_Run p l e R s m args below meth c H locs cells slots mc ms (F0 m pc ls st0) rest (xq_r G ai Wd mx rv (va_A w0 H.size) a) (xq_X G ai Wd mx (va_A w0 H.size)) (va_A w0 H.size)) (hm : mx = mxO r)
    (kk : ∀ (na : Nat → Nat) (H1 : Heap) (locs1 : List Loc), mo_I G A s.heap (Wd na) H1 locs1 → W p l e R s m args below meth c H1 locs1 (cells + mc) (slots + ms) Q (F0 m (pc + 3) ls (.ref (rv r) :: rest))) : W p l e R s m args below meth c H locs cells slots Q (F0 m pc ls st0) := by
  have hI0 : mo_I G A s.heap (w0 ++ []) H locs := by rw [List.append_nil]; exact hI
  have hFc := mo_free hI0 hA
  subst hm
  refine vy_callr hr hI.2.2 (fun q _ h => hFc q h) hFc (fun q _ h => hFc q h) (fun E ce q9 u t H1 locs1 ht hvm hx _ _ _ _ _ _ _ => absurd hx (by simp [isX])) (fun na ra t H1 locs1 ht hvm _ hB hz hk hS => ?_)
  obtain ⟨⟨r', hw, rfl⟩, hP1, hK1, hD1⟩ := hB
  cases hw
  rw [ht] at hP1
  have h9 := mo_join hI0 hA hk hP1 hD1 hS
  rw [List.append_nil] at h9
  exact kk na H1 locs1 h9
/-- behind a call, where it has thrown -/
theorem xz_usex {Wd : (Nat → Nat) → va_W} {w0 : va_W} {mx : MX} {Qc : State → Outcome → State → Prop} {mc ms : Nat} (hA : ∀ q, s.heap.size ≤ q → A q) (hI : mo_I G A s.heap w0 H locs)
    (hr : vy_Run p l e R s m args below meth c H locs cells slots mc ms (F0 m pc ls st0) rest Qc (xq_X G ai Wd mx (va_A w0 H.size)) (va_A w0 H.size)) (hno : ∀ st v t, Qc st (.returned v) t → isX mx = false) (hm : isX mx = true)
    (kk : ∀ (na da : Nat → Nat) (H1 : Heap) (locs1 : List Loc), mo_I G A s.heap (ex_W mx da ++ Wd na) H1 locs1 → vy_W p l e R s m args below meth c H1 locs1 (cells + mc) (slots + ms) Q (F0 m pc ls rest) (da 0)) : W p l e R s m args below meth c H locs cells slots Q (F0 m pc ls st0) := by
  have hI0 : mo_I G A s.heap (w0 ++ []) H locs := by rw [List.append_nil]; exact hI
  have hFc := mo_free hI0 hA
  intro T hT X
  rcases hr T hT X with ⟨v, st₀, t, T', L, h0, X', hL, e1, e2, hq, st⟩ | ⟨q, st₀, t, T', L, E, ce, h0, X', hL, e1, e2, ⟨da, hp, ⟨hE, hq0, na, hP1, hK1, hD1⟩, hF⟩, hce, hcv, hcl, st⟩
  · rw [hno _ _ _ hq] at hm; cases hm
  · obtain ⟨k1, k2, k3⟩ := vy_keep h0 e1 hI.2.2 (fun q _ h => hFc q h) hFc hL hF
    rw [← e1] at hP1
    have h9 := mo_join hI0 hA k2 hP1 hD1 k3
    rw [List.append_nil] at h9
    subst hq0
    obtain ⟨t2, a1, b1⟩ := kk na da T'.heap (locs ++ L) h9 T' rfl X'
    exact ⟨t2, st.trans a1, b1⟩
theorem xz_noi {Wd : (Nat → Nat) → va_W} {mx : MX} {B : Nat → Prop} {a : Array Value} : ∀ st v t, xq_i G ai Wd mx B a st (.returned v) t → isX mx = false := by
  rintro st v t ⟨⟨r, na, -, h, -⟩, -⟩
  rw [h]; rfl
theorem xz_nov {Wd : (Nat → Nat) → va_W} {mx : MX} {B : Nat → Prop} {a : Array Value} : ∀ st v t, xq_v G ai Wd mx B a st (.returned v) t → isX mx = false := by
  rintro st v t ⟨⟨na, -, h, -⟩, -⟩
  rw [h]; rfl
theorem xz_nor {Wd : (Nat → Nat) → va_W} {mx : MX} {rv : Int32 → Nat} {B : Nat → Prop} {a : Array Value} : ∀ st v t, xq_r G ai Wd mx rv B a st (.returned v) t → isX mx = false := by
  rintro st v t ⟨⟨na, ra, -, -, ⟨r, h, -⟩, -⟩, -⟩
  rw [h]; rfl
end XZ
theorem xz_body {y : MethodName} {cc : ByteArray} {nL : Nat} {ret : Option FieldType} {rm : Room} {l : Launch} {G : va_G} {ai : Nat → ClassId} {s0 : State} {As : List Value} {w0 : va_W} {Qc : (Nat → Prop) → Array Value → State → Outcome → State → Prop} {mx : MX} {Wd : (Nat → Nat) → va_W} {mc ms : Nat} (hy : plainName y.cls = true) (hn : (lg_sl As).length ≤ nL)
    (hbody : ∀ (p : Program) (e : Env) (s : State) (m : MethodId) (args : Array Value) (below : List Frame) (meth : Method) (c : Code) (A : Nat → Prop) (ls : Array Slot), mo_C p rm s m args meth c G ai A y.cls cc nL rm.frames rm.locals rm.cells rm.slots → mo_Z s0 A s → meth.sig.returnType = ret → mo_I G A s.heap w0 s.heap [] → lv_has ls nL (lv_args 0 As) → (∀ x ∈ c.exceptionTable.toList, False) →
      W p l e rm s m args below meth c s.heap [] 0 0 (vy_MQ below (Qc A) (xq_X G ai Wd mx A) args s mc ms A) (F0 m 0 ls [])) :
    xz_Met l G ai s0 y cc nL ret rm As w0 Qc mx Wd mc ms := by
  intro sz
  refine vy_ofW (cc := cc) (maxL := nL) (ret := ret) hy rfl ?_
  intro p e s m args below meth c s₁ B hml hxt hv
  obtain ⟨rfl, ⟨hsz, hP, hK, hD0⟩, z1, z2, z3, z4⟩ := hv
  have hts := atoms_spec (ws := ws_ y cc nL ret) B.pre
  have hts : ∀ w ∈ lw_all, w.before _ s = true := fun w h => hts w (List.mem_cons_of_mem _ h)
  have hown : s.vm.findClass y.cls = some m.cls := findClass_of_methodNamed B.named
  subst hsz
  have hD := hD0.self (sz := s.heap.size)
  have hl := lv_entry As (n := nL) hn
  rw [lg_entry_eq]
  refine hbody p e s m _ below meth c _ _ ⟨B.exec, B.bytes, hml, hown, hts, B.notSynchronized, hK, fun q h => Or.inr h, Nat.le_refl _, Nat.le_refl _, Nat.le_refl _, Nat.le_refl _⟩ ⟨z1, z2, z3, ?_⟩ B.returns ⟨hP, hD, va_S.rf⟩ hl hxt
  rintro q (⟨k, e, h⟩ | h)
  · exact z4 q ⟨e, List.mem_of_getElem? h⟩
  · exact Nat.le_trans z2 h
/-! new cells beside a world that has a tail -/
theorem xw_in {F : va_W → va_W} (hF : ∀ t, F t = F [] ++ t) (a tl : va_W) : (F (a ++ tl)).Perm (a ++ F tl) := by
  rw [hF (a ++ tl), hF tl]
  exact List.perm_append_comm_assoc _ _ _
theorem xw_new {F : va_W → va_W} (hF : ∀ t, F t = F [] ++ t) (a tl : va_W) (c : Nat × va_E) : (F (a ++ tl) ++ [c]).Perm (F (a ++ c :: tl)) := by
  rw [hF (a ++ tl), hF (a ++ c :: tl)]
  refine (List.perm_append_singleton c _).trans ?_
  rw [← List.append_assoc, ← List.append_assoc]
  exact List.perm_middle.symm
theorem xw_pick {F : va_W → va_W} (hF : ∀ t, F t = F [] ++ t) (a tl : va_W) (c : Nat × va_E) : (F (a ++ c :: tl)).Perm (c :: F (a ++ tl)) := by
  rw [hF (a ++ tl), hF (a ++ c :: tl), ← List.append_assoc, ← List.append_assoc]
  exact List.perm_middle
theorem st_tl {ai : Nat → ClassId} {sa : Nat → Nat} {v : MS} : ∀ t, st_W ai sa v t = st_W ai sa v [] ++ t := fun t => by
  simp only [st_W, List.append_assoc, List.append_nil]

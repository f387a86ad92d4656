/-! Constants of the start state: the sides, the text "nwes", the cache of small Integers -/
set_option maxRecDepth 100000
def snm (i : Nat) : String := match i with | 0 => "NORTH" | 1 => "WEST" | 2 => "EAST" | _ => "SOUTH"
def scl (i : Nat) : String := match i with | 0 => RX14 | 1 => RX15 | 2 => RX16 | _ => RX17
def refOr (v : Option Value) : Nat := match v with | some (.ref a) => a | _ => 0
def sdv (s0 : State) (b0 : Addr) (i : Nat) : Nat := refOr ((Term.static "MossLawn$Side" (snm i) "LMossLawn$Side;").eval #[Value.ref b0] s0 none [] s0)
theorem ex_eval {args : Array Value} {s : State} {t : Term} {nm : String} (h : (Cond.exactly t nm).before args s = true) : ∃ a, t.eval args s none [] s = some (.ref a) := by
  simp only [Cond.before, Cond.holds, Cond.value] at h
  cases ht : t.eval args s none [] s with
  | none => rw [ht] at h; simp at h
  | some v =>
    cases v with
    | ref a => exact ⟨a, rfl⟩
    | _ => rw [ht] at h; exfalso; revert h; cases s.vm.findClass nm <;> simp
section ZS
variable {s0 s : State} {b0 : Addr} {A : Nat → Prop}
theorem sd_ex (h0 : mo_S0 s0 b0) : ∀ i, i < 4 → (Cond.exactly (.static "MossLawn$Side" (snm i) "LMossLawn$Side;") (scl i)).before #[Value.ref b0] s0 = true
  | 0, _ => mo_leaf h0 (by decide +kernel)
  | 1, _ => mo_leaf h0 (by decide +kernel)
  | 2, _ => mo_leaf h0 (by decide +kernel)
  | 3, _ => mo_leaf h0 (by decide +kernel)
  | i + 4, h => absurd h (by omega)
theorem sd_eval (h0 : mo_S0 s0 b0) {i : Nat} (hi : i < 4) : (Term.static "MossLawn$Side" (snm i) "LMossLawn$Side;").eval #[Value.ref b0] s0 none [] s0 = some (.ref (sdv s0 b0 i)) := by
  obtain ⟨a, ha⟩ := ex_eval (sd_ex h0 i hi)
  unfold sdv
  rw [ha]; rfl
theorem sd_lays : ∀ i, i < 4 → Cond.laysStatic "MossLawn$Side" (snm i) "LMossLawn$Side;" ∈ lw_tbl
  | 0, _ => q409
  | 1, _ => q411
  | 2, _ => q413
  | 3, _ => q415
  | i + 4, h => absurd h (by omega)
theorem z_sd (h0 : mo_S0 s0 b0) (hZ : mo_Z s0 A s) {i : Nat} (hi : i < 4) : va_Z "MossLawn$Side" (snm i) "LMossLawn$Side;" (.ref (sdv s0 b0 i)) A s s.heap :=
  va_Z.kept (va_Z.moved hZ.1.alike (va_Zof (h0.1 _ (sd_lays i hi)) (h0.1 _ (lw_all_tbl q129)) (sd_eval h0 hi) (mo_noA hZ))) (mo_keep hZ)
theorem z_sdO (h0 : mo_S0 s0 b0) (hZ : mo_Z s0 A s) {i : Nat} (hi : i < 4) : va_O (scl i) (sdv s0 b0 i) A s s.heap :=
  va_O.kept (va_O.moved hZ.1.alike (va_Oof (sd_ex h0 i hi) (sd_eval h0 hi) (mo_noA hZ))) (mo_keep hZ)
def nwT : Term := .string "MossLawn$State" 133
def nwV : Term := .field nwT "java/lang/String" "value" "[B"
def nwv (s0 : State) (b0 : Addr) : Nat := refOr (nwT.eval #[Value.ref b0] s0 none [] s0)
def nwb (s0 : State) (b0 : Addr) : Nat := refOr (nwV.eval #[Value.ref b0] s0 none [] s0)
def nwf (j : Nat) : Int32 := match j with | 0 => 110 | 1 => 119 | 2 => 101 | _ => 115
theorem nw_ev (h0 : mo_S0 s0 b0) : nwT.eval #[Value.ref b0] s0 none [] s0 = some (.ref (nwv s0 b0)) := by
  obtain ⟨a, ha⟩ := ex_eval (mo_leaf h0 (w := .exactly nwT "java/lang/String") (by decide +kernel))
  unfold nwv
  rw [ha]; rfl
theorem nw_el (h0 : mo_S0 s0 b0) : ∀ j, j < 4 → (Term.elem nwV (.int (Int32.ofNat j))).eval #[Value.ref b0] s0 none [] s0 = some (.int (nwf j))
  | 0, _ => va_eqt (mo_leaf h0 (w := .eq (.elem nwV (.int 0)) (.int 110)) (by decide +kernel))
  | 1, _ => va_eqt (mo_leaf h0 (w := .eq (.elem nwV (.int 1)) (.int 119)) (by decide +kernel))
  | 2, _ => va_eqt (mo_leaf h0 (w := .eq (.elem nwV (.int 2)) (.int 101)) (by decide +kernel))
  | 3, _ => va_eqt (mo_leaf h0 (w := .eq (.elem nwV (.int 3)) (.int 115)) (by decide +kernel))
  | i + 4, h => absurd h (by omega)
theorem nw_T (h0 : mo_S0 s0 b0) (hZ : mo_Z s0 A s) : nwV.eval #[Value.ref b0] s0 none [] s0 = some (.ref (nwb s0 b0)) ∧ va_T .byte (nwb s0 b0) 4 (fun j => .int (nwf j)) A s s.heap := by
  obtain ⟨t, h1, h2⟩ := va_Tof (N := 4) (f := fun j => .int (nwf j)) (A := A) (by decide) (mo_leaf h0 (w := .arrayOf nwV .byte) (by decide +kernel)) (va_eqt (mo_leaf h0 (w := .eq (.length nwV) (.int 4)) (by decide +kernel))) (nw_el h0) (mo_noA hZ)
  have e : nwb s0 b0 = t := by unfold nwb; rw [h1]; rfl
  rw [e]
  exact ⟨h1, va_T.kept (va_T.moved hZ.1.alike h2) (mo_keep hZ)⟩
theorem nw_val (h0 : mo_S0 s0 b0) (hZ : mo_Z s0 A s) : va_OF "java/lang/String" "value" "[B" (.ref (nwb s0 b0)) (nwv s0 b0) A s s.heap :=
  va_OF.kept (va_OF.moved hZ.1.alike (vk_OFof (nw_ev h0) (nw_T h0 hZ).1 (mo_noA hZ))) (mo_keep hZ)
theorem nw_cod (h0 : mo_S0 s0 b0) (hZ : mo_Z s0 A s) : va_OF "java/lang/String" "coder" "B" (.int 0) (nwv s0 b0) A s s.heap :=
  va_OF.kept (va_OF.moved hZ.1.alike (vk_OFof (nw_ev h0) (va_eqt (mo_leaf h0 (w := .eq (.field nwT "java/lang/String" "coder" "B") (.int 0)) (by decide +kernel))) (mo_noA hZ))) (mo_keep hZ)
theorem nw_O (h0 : mo_S0 s0 b0) (hZ : mo_Z s0 A s) : va_O "java/lang/String" (nwv s0 b0) A s s.heap :=
  va_O.kept (va_O.moved hZ.1.alike (va_Oof (mo_leaf h0 (w := .exactly nwT "java/lang/String") (by decide +kernel)) (nw_ev h0) (mo_noA hZ))) (mo_keep hZ)
theorem nw_R (h0 : mo_S0 s0 b0) (hZ : mo_Z s0 A s) : vk_R "MossLawn$State" 133 "nwes" (nwv s0 b0) s := vk_R.warm hZ.1 (vk_R.of (h0.1 _ q1081) (nw_ev h0))
theorem zs_cs (h0 : mo_S0 s0 b0) (hZ : mo_Z s0 A s) : va_Z "java/lang/String" "COMPACT_STRINGS" "Z" (.int 1) A s s.heap := zs_int h0 hZ q514 (lw_all_tbl q139) (by decide +kernel)
theorem zs_fm (h0 : mo_S0 s0 b0) (hZ : mo_Z s0 A s) : va_Zq "jdk/internal/util/Preconditions" "SIOOBE_FORMATTER" "Ljava/util/function/BiFunction;" A s s.heap := zs_q h0 hZ q1098 (lw_all_tbl q148) (by decide +kernel)
theorem zs_us (h0 : mo_S0 s0 b0) (hZ : mo_Z s0 A s) : va_Zq "java/lang/Throwable" "UNASSIGNED_STACK" "[Ljava/lang/StackTraceElement;" A s s.heap := zs_q h0 hZ q819 (lw_all_tbl q150) (by decide +kernel)
theorem zs_ss (h0 : mo_S0 s0 b0) (hZ : mo_Z s0 A s) : va_Zq "java/lang/Throwable" "SUPPRESSED_SENTINEL" "Ljava/util/List;" A s s.heap := zs_q h0 hZ q821 (lw_all_tbl q150) (by decide +kernel)
end ZS
def sd_val (s0 : State) (b0 : Addr) (r : Int32) : Value := if r = -1 then .null else .ref (sdv s0 b0 r.toNatClampNeg)
theorem sd_null {s0 : State} {b0 : Addr} {r : Int32} (h : r = -1) : sd_val s0 b0 r = .null := if_pos h
theorem sd_ref {s0 : State} {b0 : Addr} {r : Int32} (h : gi r 4 = true) : sd_val s0 b0 r = .ref (sdv s0 b0 r.toNatClampNeg) := by
  obtain ⟨j, hj, rfl, hc⟩ := gi_nI (by decide) h
  unfold sd_val
  rw [if_neg]
  revert hj
  have e : ∀ j, j < 4 → ¬ nI j = -1 := by decide
  exact e j
section NIR
variable {p : Program} {l : Launch} {e : Env} {R : Room} {s s0 : State} {b0 : Addr} {m : MethodId} {args : Array Value} {below : List Frame} {meth : Method} {c : Code} {H : Heap} {locs : List Loc} {cells slots : Nat} {Q : State → Prop}
variable {pc : Nat} {ls : Array Slot} {rest st0 : List Value} {own : String} {cc : ByteArray} {nL f L : Nat}
theorem ni_iret {a : Array Value} {v : Int32} (hx : p.tables.exec = Jvm.exec) (hb : c.code = cc) (hr : meth.sig.returnType = some .int) (hlk : meth.locks = false) (hdg : decode cc pc = .ok (.ireturn, 1)) :
    W p l e R s m a below meth c s.heap [] 0 0 (MQ below (rd_Q (.int v)) a s 0 0 (fun _ => False)) (F0 m pc ls [.int v]) :=
  W.iret hx hb hr (fun t ht hW => ⟨rfl, ht⟩) (fun q hq => by cases hq) hdg hlk
theorem ni_run {x y : MethodName} {bytes : ByteArray} {maxL index : Nat} {ret : Option FieldType} {rm : Room} {v : Value} {C owner : String} {b : Addr} {As : List Value} {g : JFrame} {n : Nat} (hN : mo_N p R s m args meth c own cc nL f L)
    (hbody : ni_Body l y bytes maxL ret rm (Value.ref b :: As).toArray v) (hy : plainName y.cls = true) (hrc : rm.cells = 0) (hrs : rm.slots = 0) (hf : rm.frames + 1 ≤ f) (hL : 8 + (maxL + 11) + rm.locals ≤ L)
    (hlink : Cond.methodLink own index x ∈ lw_all) (hsame : Cond.sameMethod x.cls owner x.name x.desc ∈ lw_all) (hd0 : va_Decl s ⟨owner, x.name, x.desc⟩) (howner : owner ≠ "java/lang/invoke/MethodHandle" ∧ owner ≠ "java/lang/invoke/VarHandle") (hsel : Cond.selects C x y ∈ lw_all) (hinst : Cond.instanceMethod y ∈ lw_all) (hcode : Cond.code y bytes maxL ret ∈ lw_all)
    (hrecv : ∃ cellB : Cell, H[b]? = some cellB ∧ cellB.vm.isStatics = false ∧ s.vm.findClass C = some cellB.cls)
    (hg : g.method = m) (hlen : (parseMethodDescriptor x.desc).map (fun d => d.parameters.length) = some n) (hn : As.length = n) (hsize : g.locals.size = nL) (hstack : g.stack = As.reverse ++ .ref b :: rest) (hW : 2 * g.monitorRoom + (rest.map fun v => v.category).sum ≤ 8) (hdg : decode cc g.pc = .ok (.invokevirtual index, 3)) (hc0 : cells ≤ R.cells) (hs0 : slots ≤ R.slots) :
    va_Run p l e R s m args below meth c H locs cells slots 0 0 g rest (rd_Q v (Value.ref b :: As).toArray) (fun _ => False) := by
  obtain ⟨hx, hb, hml, ho, hts, hlk, hRf, hRl⟩ := hN
  obtain ⟨cellB, hcB, hoB, hclB⟩ := hrecv
  have hgood : goodWord (Cond.code y bytes maxL ret) = true := (List.mem_filter.mp hcode).2
  have hK : Back l R p e below s args y 3 8 (fun A a => A.cells ≤ R.cells ∧ A.slots ≤ R.slots ∧ a = (Value.ref b :: As).toArray) (PostOf (rd_Q v) 0 0 (fun _ => False)) :=
    ni_back hx hy hrc hrs (Nat.le_trans hf hRf) (Nat.le_trans hL hRl) (fun a' U hW => word_at hW (good_of_word hgood) (hts _ hcode)) (fun A a h => ⟨h.1, h.2.1, by rw [h.2.2]; exact hbody⟩)
  intro T hT X
  obtain ⟨v', vm₁, ⟨U', l2, c2, s2⟩, hW₁, X', ⟨g', mk, t, L, e1, e2, hq, h1, hL, h2, h3⟩, st⟩ := va_callVU X hx (C := C) (owner := owner) (bytes := bytes) (maxL := maxL) (ret := ret) ho (hts _ hlink) (hts _ hsame) hd0 howner (hts _ hsel) (hts _ hinst) (hts _ hcode) hK (by rw [hT]; exact hcB) hoB hclB hg (hsize.trans hml.symm) (argsL := As) (rest := rest) (fun sig h => by rw [h] at hlen; exact hn.trans (Option.some.inj hlen).symm) hstack hW (by rw [hb]; exact hdg)
    (fun vm₁ hW₁ => ⟨hc0, hs0, rfl⟩)
  dsimp only [Pt.U, Pt.locs, Pt.cells, Pt.slots] at X' e1 e2 h1 h2 h3 st
  subst h1; subst h2; subst h3
  exact ⟨v', (T.setVm vm₁).calling g' mk (Value.ref b :: As).toArray, t, U', L, hT, X', hL, e1, e2, hq, st⟩
end NIR
theorem lk_out {ps : List (Int × Int)} {d k : Int} (h : ∀ q ∈ ps, q.1 ≠ k) : Op.lookupswitch.offset ps d k = d := by
  induction ps with
  | nil => rfl
  | cons q ps ih =>
    obtain ⟨a, o⟩ := q
    rw [Op.lookupswitch.offset_cons, if_neg (h (a, o) List.mem_cons_self)]
    exact ih (fun q hq => h q (List.mem_cons_of_mem _ hq))
theorem lk_ne {x v : Int32} {n : Int} (h : ¬ x = v) (hv : v.toInt = n) : n ≠ x.toInt := fun e => h (Int32.toInt_inj.mp (by rw [hv, e]))

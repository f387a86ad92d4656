/-! What the start state gives: nest links, statics; small rows for the second walker -/
set_option maxRecDepth 100000
def ov {ρ β : Type} (x : Option ρ) (k : ρ → Option β) : Option β := x.bind k
theorem ov_some {ρ β : Type} {x : Option ρ} {k : ρ → Option β} {r : β} (h : ov x k = some r) : ∃ z : ρ, x = some z ∧ k z = some r := by
  unfold ov at h
  cases x with
  | none => cases h
  | some z => exact ⟨z, rfl, h⟩
def gby (x : Int32) : Bool := decide (x.toInt8.toInt32 = x)
theorem gby_n {x : Int32} (h : gby x = true) : narrow .byte (.int x) = .int x := by
  unfold gby at h
  have h2 := of_decide_eq_true h
  show Value.int _ = _
  exact congrArg Value.int h2
def gc (x : Int32) : Bool := decide ((x.toUInt32 % 65536).toInt32 = x)
theorem gc_n {x : Int32} (h : gc x = true) : narrow .char (.int x) = .int x := by
  unfold gc at h
  have h2 := of_decide_eq_true h
  rw [← h2]
  exact pk_nc x
def gcp (sp dp n : Int32) (n0 n1 : Nat) : Bool := decide (0 ≤ sp.toInt) && decide (0 ≤ dp.toInt) && decide (0 ≤ n.toInt) && decide (sp.toInt + n.toInt ≤ (n0 : Int)) && decide (dp.toInt + n.toInt ≤ (n1 : Int))
theorem gcp_s {sp dp n : Int32} {n0 n1 : Nat} (h : gcp sp dp n n0 n1 = true) : ¬ sp < 0 ∧ ¬ dp < 0 ∧ ¬ n < 0 ∧ sp.toNatClampNeg + n.toNatClampNeg ≤ n0 ∧ dp.toNatClampNeg + n.toNatClampNeg ≤ n1 := by
  unfold gcp at h
  simp only [Bool.and_eq_true, decide_eq_true_eq] at h
  have e : ∀ x : Int32, ¬ x < 0 ↔ 0 ≤ x.toInt := fun x => by
    rw [Int32.lt_iff_toInt_lt, Int32.toInt_zero]; omega
  have k : ∀ x : Int32, x.toNatClampNeg = x.toInt.toNat := fun x => rfl
  rw [e, e, e, k, k, k]
  omega
theorem cp_room {st : List Value} {N : Nat} (h : (st.map fun v => v.category).sum ≤ 8) (hN : 26 ≤ N) : (st.map fun v => v.category).sum + (nativeFrameWords "java/lang/System" "arraycopy" 5 + 11) ≤ N := by
  have e : nativeFrameWords "java/lang/System" "arraycopy" 5 = 7 := by decide +kernel
  rw [e]
  omega
theorem mo_nF {s0 s : State} {b0 : Addr} {A : Nat → Prop} {args : Array Value} {a : String} {i : Nat} {r n d h : String} (h0 : mo_S0 s0 b0) (hZ : mo_Z s0 A s) (hq : (Cond.fieldLinkNest a i r n d h) ∈ lw_tbl) : (Cond.fieldLinkNest a i r n d h).before args s = true :=
  va_Nw.use rfl (va_Nw.warmF hZ.1 (va_Nw.of rfl (h0.1 _ hq)))
theorem mo_nM {s0 s : State} {b0 : Addr} {A : Nat → Prop} {a : String} {i : Nat} {x : MethodName} {h : String} (h0 : mo_S0 s0 b0) (hZ : mo_Z s0 A s) (hq : (Cond.methodLinkNest a i x h) ∈ lw_tbl) : va_Nw (Cond.methodLinkNest a i x h) s :=
  va_Nw.warmM hZ.1 (va_Nw.of rfl (h0.1 _ hq))
theorem mo_nC {s0 s : State} {b0 : Addr} {A : Nat → Prop} {C T : String} (h0 : mo_S0 s0 b0) (hZ : mo_Z s0 A s) (hq : (Cond.castable C T) ∈ lw_tbl) : va_Nw (Cond.castable C T) s :=
  va_Nw.warmC hZ.1 (va_Nw.of rfl (h0.1 _ hq))
theorem mo_nD {s0 s : State} {b0 : Addr} {A : Nat → Prop} {x : MethodName} (h0 : mo_S0 s0 b0) (hZ : mo_Z s0 A s) (hq : (Cond.declares x) ∈ lw_tbl) : va_Nw (Cond.declares x) s :=
  va_Nw.warmD hZ.1 (va_Nw.of rfl (h0.1 _ hq))
theorem mo_AO {s0 s : State} {b0 : Addr} {A : Nat → Prop} {C : String} (h0 : mo_S0 s0 b0) (hZ : mo_Z s0 A s) (hq : (Cond.arrayOver (.object C)) ∈ lw_tbl) : va_AO C s :=
  va_AO.moved hZ.1.alike (va_AO.of (h0.1 _ hq))
theorem mo_leaf {s0 : State} {b0 : Addr} (h0 : mo_S0 s0 b0) {w : Cond} (hw : w ∈ flatC (Jvm.Cond.and given_1 narrow_1)) : w.before #[Value.ref b0] s0 = true := flat_of_before _ h0.2 w hw
theorem mo_noA {s0 s : State} {A : Nat → Prop} (hZ : mo_Z s0 A s) : ∀ a : Nat, a < s0.heap.size → ¬ A a := fun a ha h => absurd (hZ.2.2.2 a h) (by omega)
theorem mo_keep {s0 s : State} {A : Nat → Prop} (hZ : mo_Z s0 A s) : ∀ a : Nat, a < s0.heap.size → ¬ A a → s.heap[a]? = s0.heap[a]? := fun a ha _ => hZ.2.2.1 a ha
theorem mo_nN {s0 s : State} {b0 : Addr} {A : Nat → Prop} {C T : String} (h0 : mo_S0 s0 b0) (hZ : mo_Z s0 A s) (hw : Cond.not (.castable C T) ∈ flatC (Jvm.Cond.and given_1 narrow_1)) : va_Nc C T s :=
  va_Nc.moved hZ.1.alike (va_Nc.of (mo_leaf h0 hw))
theorem zs_int {s0 s : State} {b0 : Addr} {A : Nat → Prop} {C n d : String} {z : Int32} (h0 : mo_S0 s0 b0) (hZ : mo_Z s0 A s) (hl : Cond.laysStatic C n d ∈ lw_tbl) (hi : Cond.initialized C ∈ lw_tbl) (hw : Cond.eq (.static C n d) (.int z) ∈ flatC (Jvm.Cond.and given_1 narrow_1)) : va_Z C n d (.int z) A s s.heap :=
  va_Z.kept (va_Z.moved hZ.1.alike (va_Zof (h0.1 _ hl) (h0.1 _ hi) (va_eqi (mo_leaf h0 hw)) (mo_noA hZ))) (mo_keep hZ)
theorem zs_q {s0 s : State} {b0 : Addr} {A : Nat → Prop} {C n d : String} (h0 : mo_S0 s0 b0) (hZ : mo_Z s0 A s) (hl : Cond.laysStatic C n d ∈ lw_tbl) (hi : Cond.initialized C ∈ lw_tbl) (hw : Cond.isRef (.static C n d) ∈ flatC (Jvm.Cond.and given_1 narrow_1)) : va_Zq C n d A s s.heap :=
  va_Zq.kept (va_Zq.moved hZ.1.alike (va_Zqof (h0.1 _ hl) (h0.1 _ hi) (mo_leaf h0 hw) (mo_noA hZ))) (mo_keep hZ)
theorem zs_J0 {s0 s : State} {b0 : Addr} {A : Nat → Prop} (h0 : mo_S0 s0 b0) (hZ : mo_Z s0 A s) : va_Z "java/util/BitSet" "$assertionsDisabled" "Z" (.int 1) A s s.heap := zs_int h0 hZ q679 (lw_all_tbl q117) (by decide +kernel)
theorem zs_J6 {s0 s : State} {b0 : Addr} {A : Nat → Prop} (h0 : mo_S0 s0 b0) (hZ : mo_Z s0 A s) : va_Z "java/util/ImmutableCollections" "$assertionsDisabled" "Z" (.int 1) A s s.heap := zs_int h0 hZ q425 (lw_all_tbl q131) (by decide +kernel)
section GZ0
variable {p : Program} {l : Launch} {e : Env} {R : Room} {s s0 : State} {m : MethodId} {args : Array Value} {below : List Frame} {meth : Method} {c : Code} {H : Heap} {locs : List Loc} {cells slots : Nat} {Q : State → Prop}
variable {pc : Nat} {ls : Array Slot} {rest st0 : List Value} {G : va_G} {ai : Nat → ClassId} {A : Nat → Prop} {own : String} {cc : ByteArray} {nL f L kc ks : Nat}
theorem gz_pre0 {As : List Value} {w0 : va_W} (hC : mo_C p R s m args meth c G ai A own cc nL f L kc ks) (hZ : mo_Z s0 A s) (hI : mo_I G A s.heap w0 H locs) : ∀ U : State, U.heap = H → s.WarmedH U.vm → va_Pc As (gz_B G ai s0 w0 H.size) As.toArray U :=
  gz_pre (wr := []) hC hZ (by rw [List.append_nil]; exact hI)
theorem gz_usei0 {σ : Type} {Wd : σ → va_W} {w0 : va_W} {post : Int32 → σ → Prop} {a : Array Value} {mc ms : Nat} (hA : ∀ q, s.heap.size ≤ q → A q) (hI : mo_I G A s.heap w0 H locs)
    (hr : va_Run p l e R s m args below meth c H locs cells slots mc ms (F0 m pc ls st0) rest (va_Qi post (gw_E G ai Wd (va_A w0 H.size)) (va_A w0 H.size) a) (va_A w0 H.size))
    (kk : ∀ (r : Int32) (u : σ) (H1 : Heap) (locs1 : List Loc), post r u → mo_I G A s.heap (Wd u) H1 locs1 → W p l e R s m args below meth c H1 locs1 (cells + mc) (slots + ms) Q (F0 m (pc + 3) ls (.int r :: rest))) : W p l e R s m args below meth c H locs cells slots Q (F0 m pc ls st0) :=
  gz_usei (wr := []) hA (by rw [List.append_nil]; exact hI) hr (fun r u H1 locs1 h hI1 => kk r u H1 locs1 h (by rw [List.append_nil] at hI1; exact hI1))
theorem gz_usev0 {σ : Type} {Wd : σ → va_W} {w0 : va_W} {post : σ → Prop} {a : Array Value} {mc ms : Nat} (hA : ∀ q, s.heap.size ≤ q → A q) (hI : mo_I G A s.heap w0 H locs)
    (hr : va_Run p l e R s m args below meth c H locs cells slots mc ms (F0 m pc ls st0) rest (va_Qv post (gw_E G ai Wd (va_A w0 H.size)) (va_A w0 H.size) a) (va_A w0 H.size))
    (kk : ∀ (u : σ) (H1 : Heap) (locs1 : List Loc), post u → mo_I G A s.heap (Wd u) H1 locs1 → W p l e R s m args below meth c H1 locs1 (cells + mc) (slots + ms) Q (F0 m (pc + 3) ls rest)) : W p l e R s m args below meth c H locs cells slots Q (F0 m pc ls st0) :=
  gz_usev (wr := []) hA (by rw [List.append_nil]; exact hI) hr (fun u H1 locs1 h hI1 => kk u H1 locs1 h (by rw [List.append_nil] at hI1; exact hI1))
theorem gz_user0 {σ : Type} {Wd : σ → va_W} {w0 : va_W} {post : Nat → σ → Prop} {a : Array Value} {mc ms : Nat} (hA : ∀ q, s.heap.size ≤ q → A q) (hI : mo_I G A s.heap w0 H locs)
    (hr : va_Run p l e R s m args below meth c H locs cells slots mc ms (F0 m pc ls st0) rest (va_Qr (S := σ) (fun _ => True) (fun u ra t => post ra u ∧ gw_E G ai Wd (va_A w0 H.size) u t) (va_A w0 H.size) a) (va_A w0 H.size))
    (kk : ∀ (ra : Nat) (u : σ) (H1 : Heap) (locs1 : List Loc), post ra u → mo_I G A s.heap (Wd u) H1 locs1 → W p l e R s m args below meth c H1 locs1 (cells + mc) (slots + ms) Q (F0 m (pc + 3) ls (.ref ra :: rest))) : W p l e R s m args below meth c H locs cells slots Q (F0 m pc ls st0) :=
  gz_user (wr := []) hA (by rw [List.append_nil]; exact hI) hr (fun r u H1 locs1 h hI1 => kk r u H1 locs1 h (by rw [List.append_nil] at hI1; exact hI1))
end GZ0
def p_mmin (x y : Int32) : Int32 := if y < x then y else x
section MM
variable {p : Program} {l : Launch} {e : Env} {R : Room} {s s0 : State} {m : MethodId} {args : Array Value} {below : List Frame} {meth : Method} {c : Code} {H : Heap} {locs : List Loc} {cells slots : Nat} {Q : State → Prop}
variable {pc : Nat} {ls : Array Slot} {rest st0 : List Value} {own : String} {cc : ByteArray} {nL f L : Nat}
theorem mo_min {index : Nat} {x y : Int32} (hN : mo_N p R s m args meth c own cc nL f L) (hq : (Cond.methodLink own index ⟨"java/lang/Math", "min", "(II)I"⟩) ∈ lw_all) (hf : 1 ≤ f) (hL : 21 ≤ L) (hsz : ls.size = nL) (hW : (rest.map fun v => v.category).sum ≤ 8) (hdg : decode cc pc = .ok (.invokestatic index, 3))
    (kk : W p l e R s m args below meth c H locs cells slots Q (F0 m (pc + 3) ls (.int (p_mmin x y) :: rest))) (hc0 : cells ≤ R.cells := by first | exact Nat.zero_le _ | exact Nat.le_of_ble_eq_true rfl | assumption | omega) (hs0 : slots ≤ R.slots := by first | exact Nat.zero_le _ | exact Nat.le_of_ble_eq_true rfl | assumption | omega) : W p l e R s m args below meth c H locs cells slots Q (F0 m pc ls (.int y :: .int x :: rest)) :=
  va_mmin hN.1 hN.2.1 (by rw [hsz]; exact hN.2.2.1) hN.2.2.2.1 (hN.2.2.2.2.1 _ hq) (hN.2.2.2.2.1 _ q652) (hN.2.2.2.2.1 _ q144) (hN.2.2.2.2.1 _ q653) (Nat.le_trans hf hN.2.2.2.2.2.2.1) (Nat.le_trans (by omega) hN.2.2.2.2.2.2.2) hc0 hs0 hdg kk
theorem mo_acmp_ne (hexec : p.tables.exec = Jvm.exec) (hb : c.code = cc) {a b : Nat} {off : Int} {tgt : Nat} (hdg : decode cc pc = .ok (.if_acmp .ne off, 3)) (ht : (pc : Int) + off = (tgt : Int))
    (kt : ¬ a = b → W p l e R s m args below meth c H locs cells slots Q (F0 m tgt ls rest)) (kf : a = b → W p l e R s m args below meth c H locs cells slots Q (F0 m (pc + 3) ls rest)) : W p l e R s m args below meth c H locs cells slots Q (F0 m pc ls (.ref b :: .ref a :: rest)) :=
  lv_acmp_ne (rx := some a) (ry := some b) hexec hb hdg ht (fun h => kt (fun q => h (congrArg some q))) (fun h => kf (Option.some.inj h))
theorem mo_acmp_eq (hexec : p.tables.exec = Jvm.exec) (hb : c.code = cc) {a b : Nat} {off : Int} {tgt : Nat} (hdg : decode cc pc = .ok (.if_acmp .eq off, 3)) (ht : (pc : Int) + off = (tgt : Int))
    (kt : a = b → W p l e R s m args below meth c H locs cells slots Q (F0 m tgt ls rest)) (kf : ¬ a = b → W p l e R s m args below meth c H locs cells slots Q (F0 m (pc + 3) ls rest)) : W p l e R s m args below meth c H locs cells slots Q (F0 m pc ls (.ref b :: .ref a :: rest)) :=
  lv_acmp_eq (rx := some a) (ry := some b) hexec hb hdg ht (fun h => kt (Option.some.inj h)) (fun h => kf (fun q => h (congrArg some q)))
end MM

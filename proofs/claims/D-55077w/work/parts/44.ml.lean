/-! The lawn's own cells behind its State 'now': u row 0 its fields by number, 1 far, 2 the queue's places (-1 none), 3 head and tail, 4 input, 5 its count and flag, 6 line, 7 its count and flag -/
set_option maxRecDepth 100000
def RL : String := "MossLawnLaw"
def icT : Term := .static "java/lang/Integer$IntegerCache" "cache" "[Ljava/lang/Integer;"
def icv (s0 : State) (b0 : Addr) (k : Nat) : Nat := refOr ((Term.elem icT (.int (Int32.ofNat k))).eval #[Value.ref b0] s0 none [] s0)
def dqf (s0 : State) (b0 : Addr) (d : Nat → Int32) : Nat → Option Nat := fun k => if d k = -1 then none else some (icv s0 b0 (d k + 128).toNatClampNeg)
def ml_F (sa ma : Nat → Nat) (rf : Value) (u : MS) : List Value := [.ref (sa 0), .ref (ma 1), .ref (ma 2), .ref (ma 3), .int (u 0 4), .ref (ma 4), .int (u 0 6), .ref (ma 5), .ref (ma 6), .ref (ma 7), .ref (ma 8), .ref (ma 9), rf, .int (u 0 13), .ref (ma 14), .ref (ma 16), .ref (ma 11), .ref (ma 12), .ref (ma 18), .int (u 0 19), .int (u 0 20)]
def sb_C (ai : Nat → ClassId) (q b : Nat) (n : Nat) (f : Nat → Int32) (c fl : Int32) : va_W := [(q, .inr (16, [.ref b, .int 0, .int fl, .int c])), (b, .inl (ai 2, n, .inl f))]
def dq_C (ai : Nat → ClassId) (s0 : State) (b0 : Addr) (q b : Nat) (d : Nat → Int32) (h t : Int32) : va_W := [(q, .inr (17, [.ref b, .int h, .int t])), (b, .inl (ai 3, 33, .inr (.inr (.inr (.inr (dqf s0 b0 d))))))]
def ls_C (ai : Nat → ClassId) (s0 : State) (b0 : Addr) (q b : Nat) : va_W := [(q, .inr (15, [.ref b, .int 0])), (b, .inl (ai 3, 4, .inr (.inr (.inr (.inr fun k => some (sdv s0 b0 k))))))]
def ml_C (ai : Nat → ClassId) (s0 : State) (b0 : Addr) (sa ma : Nat → Nat) (rf : Value) (u : MS) : va_W :=
  [(ma 0, .inr (1, ml_F sa ma rf u)), (ma 5, .inr (5, [])), (ma 6, .inr (6, [])), (ma 7, .inr (7, [])), (ma 8, .inr (8, [])), (ma 11, .inl (ai 0, 30, .inl (u 1)))] ++
  (ls_C ai s0 b0 (ma 9) (ma 10) ++ (dq_C ai s0 b0 (ma 12) (ma 13) (u 2) (u 3 0) (u 3 1) ++ (sb_C ai (ma 14) (ma 15) 60 (u 4) (u 5 0) (u 5 1) ++ sb_C ai (ma 16) (ma 17) 20 (u 6) (u 7 0) (u 7 1))))
def ml_W (ai : Nat → ClassId) (s0 : State) (b0 : Addr) (sa ma : Nat → Nat) (rf : Value) (v u : MS) (tl : va_W) : va_W := st_W ai sa v (ml_C ai s0 b0 sa ma rf u ++ tl)
theorem ml_tl {ai : Nat → ClassId} {s0 : State} {b0 : Addr} {sa ma : Nat → Nat} {rf : Value} {v u : MS} : ∀ t, st_W ai sa v (ml_C ai s0 b0 sa ma rf u ++ t) = st_W ai sa v (ml_C ai s0 b0 sa ma rf u ++ []) ++ t := fun t => by
  rw [st_tl (ml_C ai s0 b0 sa ma rf u ++ t), st_tl (ml_C ai s0 b0 sa ma rf u ++ []), List.append_nil, List.append_assoc]
def gr_name (j : Nat) : String := match j with | 0 => RX4 | 1 => RX5 | 2 => RX6 | _ => RX7
section MLR
variable {p : Program} {l : Launch} {e : Env} {R : Room} {s s0 : State} {b0 : Addr} {m : MethodId} {args : Array Value} {below : List Frame} {meth : Method} {c : Code} {H : Heap} {locs : List Loc} {cells slots : Nat} {Q : State → Prop} {pc : Nat} {ls : Array Slot} {rest : List Value} {G : va_G} {ai : Nat → ClassId} {A : Nat → Prop} {cc : ByteArray} {nL f L kc ks : Nat}
variable {sa ma : Nat → Nat} {rf : Value} {v u : MS} {tl : va_W}
theorem gr_rc (hC : mo_C p R s m args meth c G ai A RX0 cc nL f L kc ks) (hI : mo_I G A s.heap (st_W ai sa v (ml_C ai s0 b0 sa ma rf u ++ tl)) H locs) : ∀ j, j < 4 → ∃ cell : Cell, H[ma (5 + j)]? = some cell ∧ cell.vm.isStatics = false ∧ s.vm.findClass (gr_name j) = some cell.cls
  | 0, _ => va_recv hC.2.2.2.2.2.2.1 hI.1 (ci := 5) (q0 := 19) rfl rfl
  | 1, _ => va_recv hC.2.2.2.2.2.2.1 hI.1 (ci := 6) (q0 := 20) rfl rfl
  | 2, _ => va_recv hC.2.2.2.2.2.2.1 hI.1 (ci := 7) (q0 := 21) rfl rfl
  | 3, _ => va_recv hC.2.2.2.2.2.2.1 hI.1 (ci := 8) (q0 := 22) rfl rfl
  | j + 4, h => absurd h (by omega)
def gr_is (r k : Int32) : Int32 := if r = k then 1 else 0
theorem gr_young (hC : mo_C p R s m args meth c G ai A RX0 cc nL f L kc ks) (h0 : mo_S0 s0 b0) (hZ : mo_Z s0 A s) (hI : mo_I G A s.heap (st_W ai sa v (ml_C ai s0 b0 sa ma rf u ++ tl)) H locs) {r : Int32} (hj : gi r 4 = true) (hdg : decode cc pc = .ok (.instanceof 52, 3))
    (kk : W p l e R s m args below meth c H locs cells slots Q (F0 m (pc + 3) ls (.int (gr_is r 2) :: rest))) : W p l e R s m args below meth c H locs cells slots Q (F0 m pc ls (.ref (ma (5 + r.toNatClampNeg)) :: rest)) := by
  obtain ⟨j, hj1, rfl, hc⟩ := gi_nI (by decide) hj
  rw [hc]
  have hr := gr_rc hC hI j hj1
  match j, hj1, hr with
  | 0, _, hr => exact va_instNo hC.1 hC.2.1 hC.2.2.2.1 (hC.2.2.2.2.1 _ q394) (mo_nN h0 hZ (C := RX4) (T := RX6) (by decide +kernel)) hr hdg kk
  | 1, _, hr => exact va_instNo hC.1 hC.2.1 hC.2.2.2.1 (hC.2.2.2.2.1 _ q394) (mo_nN h0 hZ (C := RX5) (T := RX6) (by decide +kernel)) hr hdg kk
  | 2, _, hr => exact va_instE hC.1 hC.2.1 hC.2.2.2.1 (hC.2.2.2.2.1 _ q394) hr hdg kk
  | 3, _, hr => exact va_instNo hC.1 hC.2.1 hC.2.2.2.1 (hC.2.2.2.2.1 _ q394) (mo_nN h0 hZ (C := RX7) (T := RX6) (by decide +kernel)) hr hdg kk
theorem gr_old (hC : mo_C p R s m args meth c G ai A RX0 cc nL f L kc ks) (h0 : mo_S0 s0 b0) (hZ : mo_Z s0 A s) (hI : mo_I G A s.heap (st_W ai sa v (ml_C ai s0 b0 sa ma rf u ++ tl)) H locs) {r : Int32} (hj : gi r 4 = true) (hdg : decode cc pc = .ok (.instanceof 58, 3))
    (kk : W p l e R s m args below meth c H locs cells slots Q (F0 m (pc + 3) ls (.int (gr_is r 3) :: rest))) : W p l e R s m args below meth c H locs cells slots Q (F0 m pc ls (.ref (ma (5 + r.toNatClampNeg)) :: rest)) := by
  obtain ⟨j, hj1, rfl, hc⟩ := gi_nI (by decide) hj
  rw [hc]
  have hr := gr_rc hC hI j hj1
  match j, hj1, hr with
  | 0, _, hr => exact va_instNo hC.1 hC.2.1 hC.2.2.2.1 (hC.2.2.2.2.1 _ q401) (mo_nN h0 hZ (C := RX4) (T := RX7) (by decide +kernel)) hr hdg kk
  | 1, _, hr => exact va_instNo hC.1 hC.2.1 hC.2.2.2.1 (hC.2.2.2.2.1 _ q401) (mo_nN h0 hZ (C := RX5) (T := RX7) (by decide +kernel)) hr hdg kk
  | 2, _, hr => exact va_instNo hC.1 hC.2.1 hC.2.2.2.1 (hC.2.2.2.2.1 _ q401) (mo_nN h0 hZ (C := RX6) (T := RX7) (by decide +kernel)) hr hdg kk
  | 3, _, hr => exact va_instE hC.1 hC.2.1 hC.2.2.2.1 (hC.2.2.2.2.1 _ q401) hr hdg kk
end MLR

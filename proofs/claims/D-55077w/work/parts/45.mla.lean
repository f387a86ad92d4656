set_option maxRecDepth 100000
theorem st_X0_g_st_stones {p : Program} {l : Launch} {e : Env} {R : Room} {s s0 : State} {b0 : Addr} {m : MethodId} {args : Array Value} {below : List Frame} {meth : Method} {c : Code} {H : Heap} {locs : List Loc} {cells slots : Nat} {Q : State → Prop} {pc : Nat} {ls : Array Slot} {rest : List Value} {G : va_G} {ai : Nat → ClassId} {A : Nat → Prop} {cc : ByteArray} {nL f L kc ks : Nat} {sa : Nat → Nat} {tl : va_W} {v : MS} (hC : mo_C p R s m args meth c G ai A RX0 cc nL f L kc ks) (h0 : mo_S0 s0 b0) (hZ : mo_Z s0 A s) (hI : mo_I G A s.heap (st_W ai sa v tl) H locs) (hdg : decode cc pc = .ok (.getfield 144, 3)) (kk : W p l e R s m args below meth c H locs cells slots Q (F0 m (pc + 3) ls (.ref (sa 4) :: rest))) : W p l e R s m args below meth c H locs cells slots Q (F0 m pc ls (.ref (sa 0) :: rest)) :=
  va_getN (D := G) (ci := 2) (C := RX1) (T := TX1) (N := 19) hC.1 hC.2.1 hC.2.2.2.2.1 in_X1 hC.2.2.2.1 hC.2.2.2.2.2.2.1 hI.1 0 rfl rfl 3 (by decide) (mo_nF h0 hZ q309) (fun _ h9 => h9) rfl hdg kk
theorem st_X0_stones_get {p : Program} {l : Launch} {e : Env} {R : Room} {s s0 : State} {b0 : Addr} {m : MethodId} {args : Array Value} {below : List Frame} {meth : Method} {c : Code} {H : Heap} {locs : List Loc} {cells slots : Nat} {Q : State → Prop} {pc : Nat} {ls : Array Slot} {rest : List Value} {G : va_G} {ai : Nat → ClassId} {A : Nat → Prop} {cc : ByteArray} {nL f L kc ks : Nat} {sa : Nat → Nat} {tl : va_W} {v : MS} {q r1 : Int32} (hC : mo_C p R s m args meth c G ai A RX0 cc nL f L kc ks) (h0 : mo_S0 s0 b0) (hZ : mo_Z s0 A s) (hI : mo_I G A s.heap (st_W ai sa v tl) H locs) (hz : bs_get (v 4) q = some r1) (hf : 1 + 1 ≤ f) (hL : 8 + (3 + 11) + 20 ≤ L) (hsz : ls.size = nL) (hW : (rest.map fun v => v.category).sum ≤ 8) (hdg : decode cc pc = .ok (.invokevirtual 148, 3)) (kk : W p l e R s m args below meth c H locs cells slots Q (F0 m (pc + 3) ls (.int r1 :: rest))) (hc0 : cells ≤ kc := by first | exact Nat.zero_le _ | exact Nat.le_of_ble_eq_true rfl | assumption | omega) (hs0 : slots ≤ ks := by first | exact Nat.zero_le _ | exact Nat.le_of_ble_eq_true rfl | assumption | omega) : W p l e R s m args below meth c H locs cells slots Q (F0 m pc ls (.int q :: .ref (sa 4) :: rest)) := by
  have hI' := mo_Iperm (st_p4 (ai := ai) (sa := sa) (c := v) (tl := tl)) hI
  exact rd_use (va_runV (As := [.int q]) (rest := rest) ⟨hC.1, hC.2.1, hC.2.2.1, hC.2.2.2.1, hC.2.2.2.2.1⟩ (wa_get h0 hz H.size) (cwV 1 hC.2.2.2.2.1 (lw_V q860 q861 q862 q117 q863) rfl rfl rfl (by decide +kernel) ⟨Nat.le_trans hf hC.2.2.2.2.2.2.2.2.1, Nat.le_trans hL hC.2.2.2.2.2.2.2.2.2.1⟩) ⟨gz_blind, (va_recv hC.2.2.2.2.2.2.1 hI'.1 (ci := 13) (q0 := 0) rfl rfl), gz_pre0 hC hZ hI'⟩ rfl rfl hsz rfl (lv_room hW) hdg ⟨Nat.le_trans hc0 hC.2.2.2.2.2.2.2.2.2.2.1, Nat.le_trans hs0 hC.2.2.2.2.2.2.2.2.2.2.2⟩) kk
theorem st_X0_g_st_moss {p : Program} {l : Launch} {e : Env} {R : Room} {s s0 : State} {b0 : Addr} {m : MethodId} {args : Array Value} {below : List Frame} {meth : Method} {c : Code} {H : Heap} {locs : List Loc} {cells slots : Nat} {Q : State → Prop} {pc : Nat} {ls : Array Slot} {rest : List Value} {G : va_G} {ai : Nat → ClassId} {A : Nat → Prop} {cc : ByteArray} {nL f L kc ks : Nat} {sa : Nat → Nat} {tl : va_W} {v : MS} (hC : mo_C p R s m args meth c G ai A RX0 cc nL f L kc ks) (h0 : mo_S0 s0 b0) (hZ : mo_Z s0 A s) (hI : mo_I G A s.heap (st_W ai sa v tl) H locs) (hdg : decode cc pc = .ok (.getfield 154, 3)) (kk : W p l e R s m args below meth c H locs cells slots Q (F0 m (pc + 3) ls (.ref (sa 2) :: rest))) : W p l e R s m args below meth c H locs cells slots Q (F0 m pc ls (.ref (sa 0) :: rest)) :=
  va_getN (D := G) (ci := 2) (C := RX1) (T := TX1) (N := 19) hC.1 hC.2.1 hC.2.2.2.2.1 in_X1 hC.2.2.2.1 hC.2.2.2.2.2.2.1 hI.1 0 rfl rfl 1 (by decide) (mo_nF h0 hZ q305) (fun _ h9 => h9) rfl hdg kk
theorem st_X0_g_st_gardenerMany {p : Program} {l : Launch} {e : Env} {R : Room} {s s0 : State} {b0 : Addr} {m : MethodId} {args : Array Value} {below : List Frame} {meth : Method} {c : Code} {H : Heap} {locs : List Loc} {cells slots : Nat} {Q : State → Prop} {pc : Nat} {ls : Array Slot} {rest : List Value} {G : va_G} {ai : Nat → ClassId} {A : Nat → Prop} {cc : ByteArray} {nL f L kc ks : Nat} {sa : Nat → Nat} {tl : va_W} {v : MS} (hC : mo_C p R s m args meth c G ai A RX0 cc nL f L kc ks) (h0 : mo_S0 s0 b0) (hZ : mo_Z s0 A s) (hI : mo_I G A s.heap (st_W ai sa v tl) H locs) (hdg : decode cc pc = .ok (.getfield 181, 3)) (kk : W p l e R s m args below meth c H locs cells slots Q (F0 m (pc + 3) ls (.int (v 0 6) :: rest))) : W p l e R s m args below meth c H locs cells slots Q (F0 m pc ls (.ref (sa 0) :: rest)) :=
  va_getN (D := G) (ci := 2) (C := RX1) (T := TX1) (N := 19) hC.1 hC.2.1 hC.2.2.2.2.1 in_X1 hC.2.2.2.1 hC.2.2.2.2.2.2.1 hI.1 0 rfl rfl 6 (by decide) (mo_nF h0 hZ q315) (fun _ h9 => h9) rfl hdg kk
theorem st_X0_g_st_gardeners {p : Program} {l : Launch} {e : Env} {R : Room} {s s0 : State} {b0 : Addr} {m : MethodId} {args : Array Value} {below : List Frame} {meth : Method} {c : Code} {H : Heap} {locs : List Loc} {cells slots : Nat} {Q : State → Prop} {pc : Nat} {ls : Array Slot} {rest : List Value} {G : va_G} {ai : Nat → ClassId} {A : Nat → Prop} {cc : ByteArray} {nL f L kc ks : Nat} {sa : Nat → Nat} {tl : va_W} {v : MS} (hC : mo_C p R s m args meth c G ai A RX0 cc nL f L kc ks) (h0 : mo_S0 s0 b0) (hZ : mo_Z s0 A s) (hI : mo_I G A s.heap (st_W ai sa v tl) H locs) (hdg : decode cc pc = .ok (.getfield 244, 3)) (kk : W p l e R s m args below meth c H locs cells slots Q (F0 m (pc + 3) ls (.ref (sa 6) :: rest))) : W p l e R s m args below meth c H locs cells slots Q (F0 m pc ls (.ref (sa 0) :: rest)) :=
  va_getN (D := G) (ci := 2) (C := RX1) (T := TX1) (N := 19) hC.1 hC.2.1 hC.2.2.2.2.1 in_X1 hC.2.2.2.1 hC.2.2.2.2.2.2.1 hI.1 0 rfl rfl 5 (by decide) (mo_nF h0 hZ q313) (fun _ h9 => h9) rfl hdg kk
theorem st_X0_g_gard_square {p : Program} {l : Launch} {e : Env} {R : Room} {s s0 : State} {b0 : Addr} {m : MethodId} {args : Array Value} {below : List Frame} {meth : Method} {c : Code} {H : Heap} {locs : List Loc} {cells slots : Nat} {Q : State → Prop} {pc : Nat} {ls : Array Slot} {rest : List Value} {G : va_G} {ai : Nat → ClassId} {A : Nat → Prop} {cc : ByteArray} {nL f L kc ks : Nat} {sa : Nat → Nat} {tl : va_W} {v : MS} {k : Int32} (hC : mo_C p R s m args meth c G ai A RX0 cc nL f L kc ks) (h0 : mo_S0 s0 b0) (hZ : mo_Z s0 A s) (hI : mo_I G A s.heap (st_W ai sa v tl) H locs) (hj : gi k 4 = true) (hdg : decode cc pc = .ok (.getfield 259, 3)) (kk : W p l e R s m args below meth c H locs cells slots Q (F0 m (pc + 3) ls (.int (v (6 + k.toNatClampNeg) 0) :: rest))) : W p l e R s m args below meth c H locs cells slots Q (F0 m pc ls (.ref (sa (10 + k.toNatClampNeg)) :: rest)) := by
  obtain ⟨j, hj1, -, hc⟩ := gi_nI (by decide) hj
  rw [hc] at kk ⊢
  exact va_getN (D := G) (ci := 3) (C := RX2) (T := TX2) (N := 5) hC.1 hC.2.1 hC.2.2.2.2.1 in_X2 hC.2.2.2.1 hC.2.2.2.2.2.2.1 hI.1 (7 + j) (st_hg j hj1) rfl 0 (by decide) (mo_nF h0 hZ q248) (fun _ h9 => h9) rfl hdg kk
theorem ml_X0_g_ml_now {p : Program} {l : Launch} {e : Env} {R : Room} {s s0 : State} {b0 : Addr} {m : MethodId} {args : Array Value} {below : List Frame} {meth : Method} {c : Code} {H : Heap} {locs : List Loc} {cells slots : Nat} {Q : State → Prop} {pc : Nat} {ls : Array Slot} {rest : List Value} {G : va_G} {ai : Nat → ClassId} {A : Nat → Prop} {cc : ByteArray} {nL f L kc ks : Nat} {sa ma : Nat → Nat} {rf : Value} {tl : va_W} {v : MS} {ml : MS} (hC : mo_C p R s m args meth c G ai A RX0 cc nL f L kc ks) (h0 : mo_S0 s0 b0) (hZ : mo_Z s0 A s) (hI : mo_I G A s.heap (st_W ai sa v (ml_C ai s0 b0 sa ma rf ml ++ tl)) H locs) (hdg : decode cc pc = .ok (.getfield 20, 3)) (kk : W p l e R s m args below meth c H locs cells slots Q (F0 m (pc + 3) ls (.ref (sa 0) :: rest))) : W p l e R s m args below meth c H locs cells slots Q (F0 m pc ls (.ref (ma 0) :: rest)) :=
  va_get (D := G) (ci := 1) (C := RX0) (T := TX0) (N := 21) hC.1 hC.2.1 hC.2.2.2.2.1 in_X0 hC.2.2.2.1 hC.2.2.2.2.2.2.1 hI.1 18 rfl rfl 0 (by decide) (hC.2.2.2.2.1 _ q557) (fun _ h9 => h9) rfl hdg kk
theorem ml_X0_g_ml_oldMoss {p : Program} {l : Launch} {e : Env} {R : Room} {s s0 : State} {b0 : Addr} {m : MethodId} {args : Array Value} {below : List Frame} {meth : Method} {c : Code} {H : Heap} {locs : List Loc} {cells slots : Nat} {Q : State → Prop} {pc : Nat} {ls : Array Slot} {rest : List Value} {G : va_G} {ai : Nat → ClassId} {A : Nat → Prop} {cc : ByteArray} {nL f L kc ks : Nat} {sa ma : Nat → Nat} {rf : Value} {tl : va_W} {v : MS} {ml : MS} (hC : mo_C p R s m args meth c G ai A RX0 cc nL f L kc ks) (h0 : mo_S0 s0 b0) (hZ : mo_Z s0 A s) (hI : mo_I G A s.heap (st_W ai sa v (ml_C ai s0 b0 sa ma rf ml ++ tl)) H locs) (hdg : decode cc pc = .ok (.getfield 61, 3)) (kk : W p l e R s m args below meth c H locs cells slots Q (F0 m (pc + 3) ls (.ref (ma 8) :: rest))) : W p l e R s m args below meth c H locs cells slots Q (F0 m pc ls (.ref (ma 0) :: rest)) :=
  va_get (D := G) (ci := 1) (C := RX0) (T := TX0) (N := 21) hC.1 hC.2.1 hC.2.2.2.2.1 in_X0 hC.2.2.2.1 hC.2.2.2.2.2.2.1 hI.1 18 rfl rfl 10 (by decide) (hC.2.2.2.2.1 _ q567) (fun _ h9 => h9) rfl hdg kk
theorem ml_X0_g_ml_youngMoss {p : Program} {l : Launch} {e : Env} {R : Room} {s s0 : State} {b0 : Addr} {m : MethodId} {args : Array Value} {below : List Frame} {meth : Method} {c : Code} {H : Heap} {locs : List Loc} {cells slots : Nat} {Q : State → Prop} {pc : Nat} {ls : Array Slot} {rest : List Value} {G : va_G} {ai : Nat → ClassId} {A : Nat → Prop} {cc : ByteArray} {nL f L kc ks : Nat} {sa ma : Nat → Nat} {rf : Value} {tl : va_W} {v : MS} {ml : MS} (hC : mo_C p R s m args meth c G ai A RX0 cc nL f L kc ks) (h0 : mo_S0 s0 b0) (hZ : mo_Z s0 A s) (hI : mo_I G A s.heap (st_W ai sa v (ml_C ai s0 b0 sa ma rf ml ++ tl)) H locs) (hdg : decode cc pc = .ok (.getfield 55, 3)) (kk : W p l e R s m args below meth c H locs cells slots Q (F0 m (pc + 3) ls (.ref (ma 7) :: rest))) : W p l e R s m args below meth c H locs cells slots Q (F0 m pc ls (.ref (ma 0) :: rest)) :=
  va_get (D := G) (ci := 1) (C := RX0) (T := TX0) (N := 21) hC.1 hC.2.1 hC.2.2.2.2.1 in_X0 hC.2.2.2.1 hC.2.2.2.2.2.2.1 hI.1 18 rfl rfl 9 (by decide) (hC.2.2.2.2.1 _ q566) (fun _ h9 => h9) rfl hdg kk
theorem ml_X0_g_ml_bare {p : Program} {l : Launch} {e : Env} {R : Room} {s s0 : State} {b0 : Addr} {m : MethodId} {args : Array Value} {below : List Frame} {meth : Method} {c : Code} {H : Heap} {locs : List Loc} {cells slots : Nat} {Q : State → Prop} {pc : Nat} {ls : Array Slot} {rest : List Value} {G : va_G} {ai : Nat → ClassId} {A : Nat → Prop} {cc : ByteArray} {nL f L kc ks : Nat} {sa ma : Nat → Nat} {rf : Value} {tl : va_W} {v : MS} {ml : MS} (hC : mo_C p R s m args meth c G ai A RX0 cc nL f L kc ks) (h0 : mo_S0 s0 b0) (hZ : mo_Z s0 A s) (hI : mo_I G A s.heap (st_W ai sa v (ml_C ai s0 b0 sa ma rf ml ++ tl)) H locs) (hdg : decode cc pc = .ok (.getfield 49, 3)) (kk : W p l e R s m args below meth c H locs cells slots Q (F0 m (pc + 3) ls (.ref (ma 6) :: rest))) : W p l e R s m args below meth c H locs cells slots Q (F0 m pc ls (.ref (ma 0) :: rest)) :=
  va_get (D := G) (ci := 1) (C := RX0) (T := TX0) (N := 21) hC.1 hC.2.1 hC.2.2.2.2.1 in_X0 hC.2.2.2.1 hC.2.2.2.2.2.2.1 hI.1 18 rfl rfl 8 (by decide) (hC.2.2.2.2.1 _ q565) (fun _ h9 => h9) rfl hdg kk
theorem ml_X0_g_ml_pebble {p : Program} {l : Launch} {e : Env} {R : Room} {s s0 : State} {b0 : Addr} {m : MethodId} {args : Array Value} {below : List Frame} {meth : Method} {c : Code} {H : Heap} {locs : List Loc} {cells slots : Nat} {Q : State → Prop} {pc : Nat} {ls : Array Slot} {rest : List Value} {G : va_G} {ai : Nat → ClassId} {A : Nat → Prop} {cc : ByteArray} {nL f L kc ks : Nat} {sa ma : Nat → Nat} {rf : Value} {tl : va_W} {v : MS} {ml : MS} (hC : mo_C p R s m args meth c G ai A RX0 cc nL f L kc ks) (h0 : mo_S0 s0 b0) (hZ : mo_Z s0 A s) (hI : mo_I G A s.heap (st_W ai sa v (ml_C ai s0 b0 sa ma rf ml ++ tl)) H locs) (hdg : decode cc pc = .ok (.getfield 42, 3)) (kk : W p l e R s m args below meth c H locs cells slots Q (F0 m (pc + 3) ls (.ref (ma 5) :: rest))) : W p l e R s m args below meth c H locs cells slots Q (F0 m pc ls (.ref (ma 0) :: rest)) :=
  va_get (D := G) (ci := 1) (C := RX0) (T := TX0) (N := 21) hC.1 hC.2.1 hC.2.2.2.2.1 in_X0 hC.2.2.2.1 hC.2.2.2.2.2.2.1 hI.1 18 rfl rfl 7 (by decide) (hC.2.2.2.2.1 _ q564) (fun _ h9 => h9) rfl hdg kk
def p_isSq (a0 : Int32) : Int32 := (p_within a0 0 29)
theorem b_isSq (a0 : Int32) : p_isSq a0 = 0 ∨ p_isSq a0 = 1 := by
  unfold p_isSq
  exact b_within a0 0 29
theorem w_p_isSq (l : Launch) (a0 : Int32) (v0 : Int32) (hF : p_isSq a0 = v0) : pu_Met l yX0_isSquare cX0_isSquare 1 (some .boolean) ({ frames := 1, cells := 0, slots := 0, locals := 22 } : Room) [.int a0] (.int v0) := by
  refine pu_body (by decide) (Nat.le_of_ble_eq_true rfl) ?_
  intro p e s m args below meth c ls hN hr hl
  have hx := hN.1
  have hb := hN.2.1
  have hl : lv_has ls 1 [(0, .int a0)] := hl
  rw [p_isSq] at hF
  refine lv_iload_n hx hb dX0_isSquare_0 rfl (lv_at hl 0 rfl) ?_
  refine lv_iconst (v := 0) hx hb dX0_isSquare_1 (by decide) ?_
  refine lv_bipush (v := 29) hx hb dX0_isSquare_2 (by decide) ?_
  refine k_X0_within hN (Nat.le_of_ble_eq_true rfl) (Nat.le_of_ble_eq_true rfl) hl.1 (Nat.le_of_ble_eq_true rfl) dX0_isSquare_4 ?_
  subst hF
  exact pu_iret (v := (p_within a0 0 29)) hN hr (by rcases b_within a0 0 29 with h | h <;> (rw [h]; rfl)) dX0_isSquare_7
theorem k_X0_isSq {p : Program} {l : Launch} {e : Env} {R : Room} {s : State} {m : MethodId} {args : Array Value} {below : List Frame} {meth : Method} {c : Code} {H : Heap} {locs : List Loc} {cells slots : Nat} {Q : State → Prop} {pc : Nat} {ls : Array Slot} {rest : List Value} {cc : ByteArray} {nL f L : Nat} {a0 : Int32} (hN : mo_N p R s m args meth c RX0 cc nL f L) (hf : 1 + 1 ≤ f) (hL : 8 + (1 + 11) + 22 ≤ L) (hsz : ls.size = nL) (hW : (rest.map fun v => v.category).sum ≤ 8) (hdg : decode cc pc = .ok (.invokestatic 163, 3)) (kk : W p l e R s m args below meth c H locs cells slots Q (F0 m (pc + 3) ls (.int (p_isSq a0) :: rest))) (hc0 : cells ≤ R.cells := by first | exact Nat.zero_le _ | exact Nat.le_of_ble_eq_true rfl | assumption | omega) (hs0 : slots ≤ R.slots := by first | exact Nat.zero_le _ | exact Nat.le_of_ble_eq_true rfl | assumption | omega) : W p l e R s m args below meth c H locs cells slots Q (F0 m pc ls (.int a0 :: rest)) :=
  pu_cS hN 1 (w_p_isSq l a0 _ rfl) q630 q631 q115 q632 rfl rfl (by decide +kernel) rfl hf hL hc0 hs0 hsz rfl hW hdg kk
def f_ml_groundOf (v : MS) (ml : MS) (a1 : Int32) : Option Int32 := ov (bs_get (v 4) a1) (fun r1 => if r1 = 0 then (gd (gi a1 30) (lt ((v 2 a1.toNatClampNeg)) (fun x2_5 => if x2_5 = 0 then (some 1) else (if 5 < x2_5 then (some 3) else (some 2))))) else (some 0))
set_option maxHeartbeats 4000000 in
theorem w_ml_groundOf (l : Launch) (G : va_G) (ai : Nat → ClassId) {s0 : State} {b0 : Addr} (h0 : mo_S0 s0 b0) {sa ma : Nat → Nat} {rf : Value} {tl : va_W} (v : MS) (ml : MS) (a1 : Int32) (r0 : Int32) (hF : f_ml_groundOf v ml a1 = some r0) : rd_Met l G ai s0 yX0_groundOf cX0_groundOf 3 (some (.object "MossLawn$Ground")) ({ frames := 2, cells := 0, slots := 0, locals := 42 } : Room) [.ref (ma 0), .int a1] (st_W ai sa v (ml_C ai s0 b0 sa ma rf ml ++ tl)) (.ref (ma (5 + (r0).toNatClampNeg))) := by
  refine gz_body (Qc := fun _ => rd_Q (.ref (ma (5 + (r0).toNatClampNeg)))) (fr := fun _ _ => False) (by decide) (Nat.le_of_ble_eq_true rfl) ?_
  intro p e s m args below meth c A ls hC hZ hr hI hl hnm
  have hx := hC.1
  have hb := hC.2.1
  have hl : lv_has ls 3 [(0, .ref (ma 0)), (1, .int a1)] := hl
  show W p l e _ s m args below meth c s.heap [] 0 0 (MQ below (rd_Q (.ref (ma (5 + (r0).toNatClampNeg)))) args s 0 0 (fun _ => False)) (F0 m 0 ls [])
  rw [f_ml_groundOf] at hF
  refine lv_aload_n hx hb dX0_groundOf_0 rfl (lv_at hl 0 rfl) ?_
  refine ml_X0_g_ml_now hC h0 hZ hI dX0_groundOf_1 ?_
  refine st_X0_g_st_stones hC h0 hZ hI dX0_groundOf_4 ?_
  refine lv_iload_n hx hb dX0_groundOf_7 rfl (lv_at hl 1 rfl) ?_
  obtain ⟨r1, hz2, hF⟩ := ov_some hF
  refine st_X0_stones_get hC h0 hZ hI hz2 (Nat.le_of_ble_eq_true rfl) (Nat.le_of_ble_eq_true rfl) hl.1 (Nat.le_of_ble_eq_true rfl) dX0_groundOf_8 ?_
  refine lv_if_eq (tgt := 19) hx hb dX0_groundOf_11 (by decide) (fun c3 => ?_) (fun c3 => ?_)
  · have hF := if_t hF c3
    refine lv_aload_n hx hb dX0_groundOf_19 rfl (lv_at hl 0 rfl) ?_
    refine ml_X0_g_ml_now hC h0 hZ hI dX0_groundOf_20 ?_
    refine st_X0_g_st_moss hC h0 hZ hI dX0_groundOf_23 ?_
    refine lv_iload_n hx hb dX0_groundOf_26 rfl (lv_at hl 1 rfl) ?_
    obtain ⟨hg4, hF⟩ := gd_some hF
    refine st_l_moss hC hI hg4 dX0_groundOf_27 ?_
    obtain ⟨x2_5, hx2_5, hF⟩ := lt_some hF
    refine mo_ist (lv' := [(2, .int x2_5), (0, .ref (ma 0)), (1, .int a1)]) hx hb hx2_5 dX0_groundOf_28 rfl hl (by decide) rfl (fun ls hl => ?_)
    refine lv_iload_n hx hb dX0_groundOf_29 rfl (lv_at hl 0 rfl) ?_
    refine lv_if_ne (tgt := 40) hx hb dX0_groundOf_30 (by decide) (fun c6 => ?_) (fun c6 => ?_)
    · have hF := if_f hF c6
      refine lv_iload_n hx hb dX0_groundOf_40 rfl (lv_at hl 0 rfl) ?_
      refine lv_iconst (v := 5) hx hb dX0_groundOf_41 (by decide) ?_
      refine lv_icmp_gt (tgt := 52) hx hb dX0_groundOf_42 (by decide) (fun c7 => ?_) (fun c7 => ?_)
      · have hF := if_t hF c7
        refine lv_aload_n hx hb dX0_groundOf_52 rfl (lv_at hl 1 rfl) ?_
        refine ml_X0_g_ml_oldMoss hC h0 hZ hI dX0_groundOf_53 ?_
        have hF := Option.some.inj hF
        subst hF
        exact rd_aret hC hr (Or.inl ⟨_, rfl⟩) (Or.inr ⟨_, rfl⟩) dX0_groundOf_56
      · have hF := if_f hF c7
        refine lv_aload_n hx hb dX0_groundOf_45 rfl (lv_at hl 1 rfl) ?_
        refine ml_X0_g_ml_youngMoss hC h0 hZ hI dX0_groundOf_46 ?_
        refine lv_goto (tgt := 56) hx hb dX0_groundOf_49 (by decide) ?_
        have hF := Option.some.inj hF
        subst hF
        exact rd_aret hC hr (Or.inl ⟨_, rfl⟩) (Or.inr ⟨_, rfl⟩) dX0_groundOf_56
    · have hF := if_t hF c6
      refine lv_aload_n hx hb dX0_groundOf_33 rfl (lv_at hl 1 rfl) ?_
      refine ml_X0_g_ml_bare hC h0 hZ hI dX0_groundOf_34 ?_
      refine lv_goto (tgt := 56) hx hb dX0_groundOf_37 (by decide) ?_
      have hF := Option.some.inj hF
      subst hF
      exact rd_aret hC hr (Or.inl ⟨_, rfl⟩) (Or.inr ⟨_, rfl⟩) dX0_groundOf_56
  · have hF := if_f hF c3
    refine lv_aload_n hx hb dX0_groundOf_14 rfl (lv_at hl 0 rfl) ?_
    refine ml_X0_g_ml_pebble hC h0 hZ hI dX0_groundOf_15 ?_
    have hF := Option.some.inj hF
    subst hF
    exact rd_aret hC hr (Or.inl ⟨_, rfl⟩) (Or.inr ⟨_, rfl⟩) dX0_groundOf_18
theorem k_X0_ml_groundOf {p : Program} {l : Launch} {e : Env} {R : Room} {s s0 : State} {b0 : Addr} {m : MethodId} {args : Array Value} {below : List Frame} {meth : Method} {c : Code} {H : Heap} {locs : List Loc} {cells slots : Nat} {Q : State → Prop} {pc : Nat} {ls : Array Slot} {rest : List Value} {G : va_G} {ai : Nat → ClassId} {A : Nat → Prop} {cc : ByteArray} {nL f L kc ks : Nat} {sa ma : Nat → Nat} {rf : Value} {tl : va_W} {v : MS} {ml : MS} {a1 : Int32}  {r1 : Int32} (hC : mo_C p R s m args meth c G ai A RX0 cc nL f L kc ks) (h0 : mo_S0 s0 b0) (hZ : mo_Z s0 A s) (hI : mo_I G A s.heap (st_W ai sa v (ml_C ai s0 b0 sa ma rf ml ++ tl)) H locs) (hz : f_ml_groundOf v ml a1 = some r1) (hf : 2 + 1 ≤ f) (hL : 8 + (3 + 11) + 42 ≤ L) (hsz : ls.size = nL) (hW : (rest.map fun v => v.category).sum ≤ 8) (hdg : decode cc pc = .ok (.invokevirtual 234, 3)) (kk : W p l e R s m args below meth c H locs cells slots Q (F0 m (pc + 3) ls (.ref (ma (5 + (r1).toNatClampNeg)) :: rest))) (hc0 : cells ≤ kc := by first | exact Nat.zero_le _ | exact Nat.le_of_ble_eq_true rfl | assumption | omega) (hs0 : slots ≤ ks := by first | exact Nat.zero_le _ | exact Nat.le_of_ble_eq_true rfl | assumption | omega) : W p l e R s m args below meth c H locs cells slots Q (F0 m pc ls (.int a1 :: .ref (ma 0) :: rest)) :=
  rd_use (va_runV (As := [.int a1]) (rest := rest) ⟨hC.1, hC.2.1, hC.2.2.1, hC.2.2.2.1, hC.2.2.2.2.1⟩ (w_ml_groundOf l G ai h0 v ml a1 r1 hz H.size) (cwV 1 hC.2.2.2.2.1 (lw_V q953 q955 qs19 q115 q956) rfl rfl rfl (by decide +kernel) ⟨Nat.le_trans hf hC.2.2.2.2.2.2.2.2.1, Nat.le_trans hL hC.2.2.2.2.2.2.2.2.2.1⟩) ⟨gz_blind, (va_recv hC.2.2.2.2.2.2.1 hI.1 (ci := 1) (q0 := 18) rfl rfl), gz_pre0 hC hZ hI⟩ rfl rfl hsz rfl (lv_room hW) hdg ⟨Nat.le_trans hc0 hC.2.2.2.2.2.2.2.2.2.2.1, Nat.le_trans hs0 hC.2.2.2.2.2.2.2.2.2.2.2⟩) kk
def f_ml_tread (v : MS) (ml : MS) (a1 : Int32) : Option ((MX × MS × MS)) := ov (f_ml_groundOf v ml a1) (fun r1 => gd (gi r1 4) (if (gr_is r1 2) = 0 then (some (mxO 0, (v, ml))) else (gd (gi a1 30) (some (mxR [(3, a1), (13, ((v 2 a1.toNatClampNeg)))], (v, ml))))))
set_option maxHeartbeats 4000000 in
theorem w_ml_tread (l : Launch) (G : va_G) (ai : Nat → ClassId) {s0 : State} {b0 : Addr} (h0 : mo_S0 s0 b0) {sa ma : Nat → Nat} {rf : Value} {tl : va_W} (v : MS) (ml : MS) (a1 : Int32) (r0 : MX) (u0 : MS × MS) (hF : f_ml_tread v ml a1 = some (r0, u0)) : xz_Met l G ai s0 yX0_tread cX0_tread 2 none ({ frames := 5, cells := 2, slots := 16, locals := 113 } : Room) [.ref (ma 0), .int a1] (st_W ai sa v (ml_C ai s0 b0 sa ma rf ml ++ tl)) (fun A => xq_v G ai (fun (_ : Nat → Nat) => (st_W ai sa u0.1 (ml_C ai s0 b0 sa ma rf u0.2 ++ tl))) r0 A) r0 (fun (_ : Nat → Nat) => (st_W ai sa u0.1 (ml_C ai s0 b0 sa ma rf u0.2 ++ tl))) 2 16 := by
  refine xz_body (Qc := fun A => xq_v G ai (fun (_ : Nat → Nat) => (st_W ai sa u0.1 (ml_C ai s0 b0 sa ma rf u0.2 ++ tl))) r0 A) (by decide) (Nat.le_of_ble_eq_true rfl) ?_
  intro p e s m args below meth c A ls hC hZ hr hI hl hxt
  have hx := hC.1
  have hb := hC.2.1
  have hl : lv_has ls 2 [(0, .ref (ma 0)), (1, .int a1)] := hl
  show W p l e _ s m args below meth c s.heap [] 0 0 (vy_MQ below (xq_v G ai (fun (_ : Nat → Nat) => (st_W ai sa u0.1 (ml_C ai s0 b0 sa ma rf u0.2 ++ tl))) r0 A) (xq_X G ai (fun (_ : Nat → Nat) => (st_W ai sa u0.1 (ml_C ai s0 b0 sa ma rf u0.2 ++ tl))) r0 A) args s 2 16 A) (F0 m 0 ls [])
  rw [f_ml_tread] at hF
  refine lv_aload_n hx hb dX0_tread_0 rfl (lv_at hl 0 rfl) ?_
  refine lv_iload_n hx hb dX0_tread_1 rfl (lv_at hl 1 rfl) ?_
  obtain ⟨r1, hz2, hF⟩ := ov_some hF
  refine k_X0_ml_groundOf hC h0 hZ hI hz2 (Nat.le_of_ble_eq_true rfl) (Nat.le_of_ble_eq_true rfl) hl.1 (Nat.le_of_ble_eq_true rfl) dX0_tread_2 ?_
  obtain ⟨hg3, hF⟩ := gd_some hF
  refine gr_young hC h0 hZ hI hg3 dX0_tread_5 ?_
  refine lv_if_eq (tgt := 39) hx hb dX0_tread_8 (by decide) (fun c4 => ?_) (fun c4 => ?_)
  · have hF := if_t hF c4
    cases hF
    exact xz_vret (na := fun _ => 0) hC hr hI rfl (by first | exact Nat.le_of_ble_eq_true rfl | omega) (by first | exact Nat.le_of_ble_eq_true rfl | omega) dX0_tread_39
  · have hF := if_f hF c4
    refine va_new (D := G) (ci := 10) (C := RX11) (T := TX11) (N := 8) (fs := [.null, .null, .null, .null, .null, .int 0, .int 0, .int 0]) hx hb hC.2.2.2.2.1 in_X11 tyX11 tyX11_ok hC.2.2.2.1 (hC.2.2.2.2.1 _ q787) (hC.2.2.2.2.1 _ q867) (hC.2.2.2.2.1 _ q153) hC.2.2.2.2.2.2.1 hI.1 hI.2.1 hI.2.2 hC.2.2.2.2.2.2.2.1 rfl (by decide) (Nat.le_trans (by first | exact Nat.le_of_ble_eq_true rfl | omega) hC.2.2.2.2.2.2.2.2.2.2.1) (Nat.le_trans (by first | exact Nat.le_of_ble_eq_true rfl | omega) hC.2.2.2.2.2.2.2.2.2.2.2) dX0_tread_11 (fun q5 H hP hD hS => ?_)
    have hI : mo_I G A s.heap (st_W ai sa v (ml_C ai s0 b0 sa ma rf ml ++ ((q5, .inr (10, [.null, .null, .null, .null, .null, .int 0, .int 0, .int 0])) :: tl))) _ _ := mo_Iperm (xw_new (F := fun t => (st_W ai sa v (ml_C ai s0 b0 sa ma rf ml ++ t))) (fun _ => ml_tl _) [] tl _) ⟨hP, hD, hS⟩
    refine lv_dup hx hb dX0_tread_14 rfl ?_
    refine lv_iconst (v := 3) hx hb dX0_tread_15 (by decide) ?_
    refine lv_iload_n hx hb dX0_tread_16 rfl (lv_at hl 1 rfl) ?_
    refine va_new (D := G) (ci := 10) (C := RX11) (T := TX11) (N := 8) (fs := [.null, .null, .null, .null, .null, .int 0, .int 0, .int 0]) hx hb hC.2.2.2.2.1 in_X11 tyX11 tyX11_ok hC.2.2.2.1 (hC.2.2.2.2.1 _ q787) (hC.2.2.2.2.1 _ q867) (hC.2.2.2.2.1 _ q153) hC.2.2.2.2.2.2.1 hI.1 hI.2.1 hI.2.2 hC.2.2.2.2.2.2.2.1 rfl (by decide) (Nat.le_trans (by first | exact Nat.le_of_ble_eq_true rfl | omega) hC.2.2.2.2.2.2.2.2.2.2.1) (Nat.le_trans (by first | exact Nat.le_of_ble_eq_true rfl | omega) hC.2.2.2.2.2.2.2.2.2.2.2) dX0_tread_17 (fun q6 H hP hD hS => ?_)
    have hI : mo_I G A s.heap (st_W ai sa v (ml_C ai s0 b0 sa ma rf ml ++ ((q5, .inr (10, [.null, .null, .null, .null, .null, .int 0, .int 0, .int 0])) :: (q6, .inr (10, [.null, .null, .null, .null, .null, .int 0, .int 0, .int 0])) :: tl))) _ _ := mo_Iperm (xw_new (F := fun t => (st_W ai sa v (ml_C ai s0 b0 sa ma rf ml ++ t))) (fun _ => ml_tl _) [(q5, .inr (10, [.null, .null, .null, .null, .null, .int 0, .int 0, .int 0]))] tl _) ⟨hP, hD, hS⟩
    refine lv_dup hx hb dX0_tread_20 rfl ?_
    refine lv_bipush (v := 13) hx hb dX0_tread_21 (by decide) ?_
    refine lv_aload_n hx hb dX0_tread_23 rfl (lv_at hl 0 rfl) ?_
    refine ml_X0_g_ml_now hC h0 hZ hI dX0_tread_24 ?_
    refine st_X0_g_st_moss hC h0 hZ hI dX0_tread_27 ?_
    refine lv_iload_n hx hb dX0_tread_30 rfl (lv_at hl 1 rfl) ?_
    obtain ⟨hg7, hF⟩ := gd_some hF
    refine st_l_moss hC hI hg7 dX0_tread_31 ?_
    have hI := mo_Iperm (xw_pick (F := fun t => (st_W ai sa v (ml_C ai s0 b0 sa ma rf ml ++ t))) (fun _ => ml_tl _) [(q5, .inr (10, [.null, .null, .null, .null, .null, .int 0, .int 0, .int 0]))] tl _) hI
    refine k_X0_xrefused (q := q6) (a := 13) (b := (v 2 a1.toNatClampNeg)) hC h0 hZ hI (Nat.le_of_ble_eq_true rfl) (Nat.le_of_ble_eq_true rfl) hl.1 (Nat.le_of_ble_eq_true rfl) dX0_tread_32 (fun _ H locs hI => ?_)
    have hI : mo_I G A s.heap (st_W ai sa v (ml_C ai s0 b0 sa ma rf ml ++ ((q5, .inr (10, [.null, .null, .null, .null, .null, .int 0, .int 0, .int 0])) :: (q6, .inr (10, [.null, .null, .null, .null, .null, .int 0, .int 13, .int ((v 2 a1.toNatClampNeg))])) :: tl))) _ _ := mo_Iperm (xw_pick (F := fun t => (st_W ai sa v (ml_C ai s0 b0 sa ma rf ml ++ t))) (fun _ => ml_tl _) [(q5, .inr (10, [.null, .null, .null, .null, .null, .int 0, .int 0, .int 0]))] tl _).symm hI
    have hI := mo_Iperm (xw_pick (F := fun t => (st_W ai sa v (ml_C ai s0 b0 sa ma rf ml ++ t))) (fun _ => ml_tl _) [] ((q6, .inr (10, [.null, .null, .null, .null, .null, .int 0, .int 13, .int ((v 2 a1.toNatClampNeg))])) :: tl) _) hI
    refine k_X0_xrefuR (q := q5) (cq := q6) (a := 3) (b := a1) hC h0 hZ hI (Nat.le_of_ble_eq_true rfl) (Nat.le_of_ble_eq_true rfl) hl.1 (Nat.le_of_ble_eq_true rfl) dX0_tread_35 (fun _ H locs hI => ?_)
    have hI : mo_I G A s.heap (st_W ai sa v (ml_C ai s0 b0 sa ma rf ml ++ ((q5, .inr (10, [.ref q6, .null, .null, .null, .null, .int 0, .int 3, .int a1])) :: (q6, .inr (10, [.null, .null, .null, .null, .null, .int 0, .int 13, .int ((v 2 a1.toNatClampNeg))])) :: tl))) _ _ := mo_Iperm (xw_pick (F := fun t => (st_W ai sa v (ml_C ai s0 b0 sa ma rf ml ++ t))) (fun _ => ml_tl _) [] ((q6, .inr (10, [.null, .null, .null, .null, .null, .int 0, .int 13, .int ((v 2 a1.toNatClampNeg))])) :: tl) _).symm hI
    cases hF
    have hI := mo_Iperm (xw_in (F := fun t => (st_W ai sa v (ml_C ai s0 b0 sa ma rf ml ++ t))) (fun _ => ml_tl _) [(q5, .inr (10, [.ref q6, .null, .null, .null, .null, .int 0, .int 3, .int a1])), (q6, .inr (10, [.null, .null, .null, .null, .null, .int 0, .int 13, .int ((v 2 a1.toNatClampNeg))]))] tl) hI
    exact vy_athrow hx hb dX0_tread_38 (xz_out (na := fun _ => 0) (da := fun i => match i with | 0 => q5 | _ => q6) hC hxt hI rfl (by first | exact Nat.le_of_ble_eq_true rfl | omega) (by first | exact Nat.le_of_ble_eq_true rfl | omega))
theorem k_X0_ml_tread {p : Program} {l : Launch} {e : Env} {R : Room} {s s0 : State} {b0 : Addr} {m : MethodId} {args : Array Value} {below : List Frame} {meth : Method} {c : Code} {H : Heap} {locs : List Loc} {cells slots : Nat} {Q : State → Prop} {pc : Nat} {ls : Array Slot} {rest : List Value} {G : va_G} {ai : Nat → ClassId} {A : Nat → Prop} {cc : ByteArray} {nL f L kc ks : Nat} {sa ma : Nat → Nat} {rf : Value} {tl : va_W}  {v : MS} {ml : MS} {a1 : Int32} {r1 : Int32} {u1 : MS × MS}  (hC : mo_C p R s m args meth c G ai A RX0 cc nL f L kc ks) (h0 : mo_S0 s0 b0) (hZ : mo_Z s0 A s) (hI : mo_I G A s.heap (st_W ai sa v (ml_C ai s0 b0 sa ma rf ml ++ tl)) H locs) (hz : f_ml_tread v ml a1 = some (mxO r1, u1)) (hf : 5 + 1 ≤ f) (hL : 8 + (2 + 11) + 113 ≤ L) (hsz : ls.size = nL) (hW : (rest.map fun v => v.category).sum ≤ 8) (hdg : decode cc pc = .ok (.invokevirtual 241, 3)) (kk : ∀ (H1 : Heap) (locs1 : List Loc), mo_I G A s.heap (st_W ai sa u1.1 (ml_C ai s0 b0 sa ma rf u1.2 ++ tl)) H1 locs1 → W p l e R s m args below meth c H1 locs1 (cells + 2) (slots + 16) Q (F0 m (pc + 3) ls (rest))) (hc0 : cells + 2 ≤ kc := by first | exact Nat.le_of_ble_eq_true rfl | omega) (hs0 : slots + 16 ≤ ks := by first | exact Nat.le_of_ble_eq_true rfl | omega) : W p l e R s m args below meth c H locs cells slots Q (F0 m pc ls (.int a1 :: .ref (ma 0) :: rest)) :=
  xz_usev hC.2.2.2.2.2.2.2.1 hI (vy_runV (As := [.int a1]) (rest := rest) ⟨hC.1, hC.2.1, hC.2.2.1, hC.2.2.2.1, hC.2.2.2.2.1⟩ (w_ml_tread l G ai h0 v ml a1 (mxO r1) u1 hz H.size) (cwV 1 hC.2.2.2.2.1 (lw_V q949 q951 qs18 q115 q952) rfl rfl rfl (by decide +kernel) ⟨Nat.le_trans hf hC.2.2.2.2.2.2.2.2.1, Nat.le_trans hL hC.2.2.2.2.2.2.2.2.2.1⟩) ⟨gz_blind, (va_recv hC.2.2.2.2.2.2.1 hI.1 (ci := 1) (q0 := 18) rfl rfl), gz_pre0 hC hZ hI⟩ rfl rfl hsz rfl (lv_room hW) hdg ⟨Nat.le_trans hc0 hC.2.2.2.2.2.2.2.2.2.2.1, Nat.le_trans hs0 hC.2.2.2.2.2.2.2.2.2.2.2⟩) rfl (fun na1 H1 locs1 hI1 => kk H1 locs1 hI1)
theorem k_X0_ml_tread_x {p : Program} {l : Launch} {e : Env} {R : Room} {s s0 : State} {b0 : Addr} {m : MethodId} {args : Array Value} {below : List Frame} {meth : Method} {c : Code} {H : Heap} {locs : List Loc} {cells slots : Nat} {Q : State → Prop} {pc : Nat} {ls : Array Slot} {rest : List Value} {G : va_G} {ai : Nat → ClassId} {A : Nat → Prop} {cc : ByteArray} {nL f L kc ks : Nat} {sa ma : Nat → Nat} {rf : Value} {tl : va_W}  {v : MS} {ml : MS} {a1 : Int32} {x1 : MX} {u1 : MS × MS}  (hC : mo_C p R s m args meth c G ai A RX0 cc nL f L kc ks) (h0 : mo_S0 s0 b0) (hZ : mo_Z s0 A s) (hI : mo_I G A s.heap (st_W ai sa v (ml_C ai s0 b0 sa ma rf ml ++ tl)) H locs) (hz : f_ml_tread v ml a1 = some (x1, u1)) (hx1 : isX x1 = true) (hf : 5 + 1 ≤ f) (hL : 8 + (2 + 11) + 113 ≤ L) (hsz : ls.size = nL) (hW : (rest.map fun v => v.category).sum ≤ 8) (hdg : decode cc pc = .ok (.invokevirtual 241, 3)) (kk : ∀ (da : Nat → Nat) (H1 : Heap) (locs1 : List Loc), mo_I G A s.heap (ex_W x1 da ++ (st_W ai sa u1.1 (ml_C ai s0 b0 sa ma rf u1.2 ++ tl))) H1 locs1 → vy_W p l e R s m args below meth c H1 locs1 (cells + 2) (slots + 16) Q (F0 m pc ls (rest)) (da 0)) (hc0 : cells + 2 ≤ kc := by first | exact Nat.le_of_ble_eq_true rfl | omega) (hs0 : slots + 16 ≤ ks := by first | exact Nat.le_of_ble_eq_true rfl | omega) : W p l e R s m args below meth c H locs cells slots Q (F0 m pc ls (.int a1 :: .ref (ma 0) :: rest)) :=
  xz_usex hC.2.2.2.2.2.2.2.1 hI (vy_runV (As := [.int a1]) (rest := rest) ⟨hC.1, hC.2.1, hC.2.2.1, hC.2.2.2.1, hC.2.2.2.2.1⟩ (w_ml_tread l G ai h0 v ml a1 x1 u1 hz H.size) (cwV 1 hC.2.2.2.2.1 (lw_V q949 q951 qs18 q115 q952) rfl rfl rfl (by decide +kernel) ⟨Nat.le_trans hf hC.2.2.2.2.2.2.2.2.1, Nat.le_trans hL hC.2.2.2.2.2.2.2.2.2.1⟩) ⟨gz_blind, (va_recv hC.2.2.2.2.2.2.1 hI.1 (ci := 1) (q0 := 18) rfl rfl), gz_pre0 hC hZ hI⟩ rfl rfl hsz rfl (lv_room hW) hdg ⟨Nat.le_trans hc0 hC.2.2.2.2.2.2.2.2.2.2.1, Nat.le_trans hs0 hC.2.2.2.2.2.2.2.2.2.2.2⟩) xz_nov hx1 (fun na1 da H1 locs1 hI1 => kk da H1 locs1 hI1)
def f_ml_gardenerAt (v : MS) (ml : MS) (a1 : Int32) : Option ((MX × MS × MS)) := xg (f_want (p_within a1 0 ((v 0 6) - 1)) (-1)) (fun z1 => (v, ml)) (fun r2 z1 => gd (gi a1 4) (some (mxO a1, (v, ml))))
set_option maxHeartbeats 4000000 in
theorem w_ml_gardenerAt (l : Launch) (G : va_G) (ai : Nat → ClassId) {s0 : State} {b0 : Addr} (h0 : mo_S0 s0 b0) {sa ma : Nat → Nat} {rf : Value} {tl : va_W} (v : MS) (ml : MS) (a1 : Int32) (r0 : MX) (u0 : MS × MS) (hF : f_ml_gardenerAt v ml a1 = some (r0, u0)) : xz_Met l G ai s0 yX0_gardenerAt cX0_gardenerAt 2 (some (.object "MossLawn$Gardener")) ({ frames := 5, cells := 1, slots := 7, locals := 110 } : Room) [.ref (ma 0), .int a1] (st_W ai sa v (ml_C ai s0 b0 sa ma rf ml ++ tl)) (fun A => xq_r G ai (fun (_ : Nat → Nat) => (st_W ai sa u0.1 (ml_C ai s0 b0 sa ma rf u0.2 ++ tl))) r0 (fun (r : Int32) => sa (10 + (r).toNatClampNeg)) A) r0 (fun (_ : Nat → Nat) => (st_W ai sa u0.1 (ml_C ai s0 b0 sa ma rf u0.2 ++ tl))) 1 7 := by
  refine xz_body (Qc := fun A => xq_r G ai (fun (_ : Nat → Nat) => (st_W ai sa u0.1 (ml_C ai s0 b0 sa ma rf u0.2 ++ tl))) r0 (fun (r : Int32) => sa (10 + (r).toNatClampNeg)) A) (by decide) (Nat.le_of_ble_eq_true rfl) ?_
  intro p e s m args below meth c A ls hC hZ hr hI hl hxt
  have hx := hC.1
  have hb := hC.2.1
  have hl : lv_has ls 2 [(0, .ref (ma 0)), (1, .int a1)] := hl
  show W p l e _ s m args below meth c s.heap [] 0 0 (vy_MQ below (xq_r G ai (fun (_ : Nat → Nat) => (st_W ai sa u0.1 (ml_C ai s0 b0 sa ma rf u0.2 ++ tl))) r0 (fun (r : Int32) => sa (10 + (r).toNatClampNeg)) A) (xq_X G ai (fun (_ : Nat → Nat) => (st_W ai sa u0.1 (ml_C ai s0 b0 sa ma rf u0.2 ++ tl))) r0 A) args s 1 7 A) (F0 m 0 ls [])
  rw [f_ml_gardenerAt] at hF
  refine lv_iload_n hx hb dX0_gardenerAt_0 rfl (lv_at hl 1 rfl) ?_
  refine lv_iconst (v := 0) hx hb dX0_gardenerAt_1 (by decide) ?_
  refine lv_aload_n hx hb dX0_gardenerAt_2 rfl (lv_at hl 0 rfl) ?_
  refine ml_X0_g_ml_now hC h0 hZ hI dX0_gardenerAt_3 ?_
  refine st_X0_g_st_gardenerMany hC h0 hZ hI dX0_gardenerAt_6 ?_
  refine lv_iconst (v := 1) hx hb dX0_gardenerAt_9 (by decide) ?_
  refine lv_isub hx hb dX0_gardenerAt_10 ?_
  refine k_X0_within (mo_CN hC) (Nat.le_of_ble_eq_true rfl) (Nat.le_of_ble_eq_true rfl) hl.1 (Nat.le_of_ble_eq_true rfl) dX0_gardenerAt_11 ?_
  refine lv_iconst (v := (-1)) hx hb dX0_gardenerAt_14 (by decide) ?_
  rcases xg_some hF with ⟨r2, z1, hz4, hF⟩ | ⟨ex3, z1, hx5, hz4, hF⟩
  · refine k_X0_x_want hC h0 hZ hI hz4 (Nat.le_of_ble_eq_true rfl) (Nat.le_of_ble_eq_true rfl) hl.1 (Nat.le_of_ble_eq_true rfl) dX0_gardenerAt_15 (fun H locs hI => ?_)
    refine lv_aload_n hx hb dX0_gardenerAt_18 rfl (lv_at hl 0 rfl) ?_
    refine ml_X0_g_ml_now hC h0 hZ hI dX0_gardenerAt_19 ?_
    refine st_X0_g_st_gardeners hC h0 hZ hI dX0_gardenerAt_22 ?_
    refine lv_iload_n hx hb dX0_gardenerAt_25 rfl (lv_at hl 1 rfl) ?_
    obtain ⟨hg6, hF⟩ := gd_some hF
    refine st_l_gards hC hI hg6 dX0_gardenerAt_26 ?_
    cases hF
    exact xz_aret (na := fun _ => 0) hC hr (Or.inl ⟨_, rfl⟩) hI rfl rfl (by first | exact Nat.le_of_ble_eq_true rfl | omega) (by first | exact Nat.le_of_ble_eq_true rfl | omega) dX0_gardenerAt_27
  · cases hF
    exact k_X0_x_want_x hC h0 hZ hI hz4 hx5 (Nat.le_of_ble_eq_true rfl) (Nat.le_of_ble_eq_true rfl) hl.1 (Nat.le_of_ble_eq_true rfl) dX0_gardenerAt_15 (fun da H locs hI => xz_out (na := fun _ => 0) hC hxt hI hx5 (by first | exact Nat.le_of_ble_eq_true rfl | omega) (by first | exact Nat.le_of_ble_eq_true rfl | omega))
theorem k_X0_ml_gardenerAt {p : Program} {l : Launch} {e : Env} {R : Room} {s s0 : State} {b0 : Addr} {m : MethodId} {args : Array Value} {below : List Frame} {meth : Method} {c : Code} {H : Heap} {locs : List Loc} {cells slots : Nat} {Q : State → Prop} {pc : Nat} {ls : Array Slot} {rest : List Value} {G : va_G} {ai : Nat → ClassId} {A : Nat → Prop} {cc : ByteArray} {nL f L kc ks : Nat} {sa ma : Nat → Nat} {rf : Value} {tl : va_W}  {v : MS} {ml : MS} {a1 : Int32} {r1 : Int32} {u1 : MS × MS}  (hC : mo_C p R s m args meth c G ai A RX0 cc nL f L kc ks) (h0 : mo_S0 s0 b0) (hZ : mo_Z s0 A s) (hI : mo_I G A s.heap (st_W ai sa v (ml_C ai s0 b0 sa ma rf ml ++ tl)) H locs) (hz : f_ml_gardenerAt v ml a1 = some (mxO r1, u1)) (hf : 5 + 1 ≤ f) (hL : 8 + (2 + 11) + 110 ≤ L) (hsz : ls.size = nL) (hW : (rest.map fun v => v.category).sum ≤ 8) (hdg : decode cc pc = .ok (.invokevirtual 265, 3)) (kk : ∀ (H1 : Heap) (locs1 : List Loc), mo_I G A s.heap (st_W ai sa u1.1 (ml_C ai s0 b0 sa ma rf u1.2 ++ tl)) H1 locs1 → W p l e R s m args below meth c H1 locs1 (cells + 1) (slots + 7) Q (F0 m (pc + 3) ls (.ref (sa (10 + (r1).toNatClampNeg)) :: rest))) (hc0 : cells + 1 ≤ kc := by first | exact Nat.le_of_ble_eq_true rfl | omega) (hs0 : slots + 7 ≤ ks := by first | exact Nat.le_of_ble_eq_true rfl | omega) : W p l e R s m args below meth c H locs cells slots Q (F0 m pc ls (.int a1 :: .ref (ma 0) :: rest)) :=
  xz_user hC.2.2.2.2.2.2.2.1 hI (vy_runV (As := [.int a1]) (rest := rest) ⟨hC.1, hC.2.1, hC.2.2.1, hC.2.2.2.1, hC.2.2.2.2.1⟩ (w_ml_gardenerAt l G ai h0 v ml a1 (mxO r1) u1 hz H.size) (cwV 1 hC.2.2.2.2.1 (lw_V q970 q972 qs21 q115 q973) rfl rfl rfl (by decide +kernel) ⟨Nat.le_trans hf hC.2.2.2.2.2.2.2.2.1, Nat.le_trans hL hC.2.2.2.2.2.2.2.2.2.1⟩) ⟨gz_blind, (va_recv hC.2.2.2.2.2.2.1 hI.1 (ci := 1) (q0 := 18) rfl rfl), gz_pre0 hC hZ hI⟩ rfl rfl hsz rfl (lv_room hW) hdg ⟨Nat.le_trans hc0 hC.2.2.2.2.2.2.2.2.2.2.1, Nat.le_trans hs0 hC.2.2.2.2.2.2.2.2.2.2.2⟩) rfl (fun na1 H1 locs1 hI1 => kk H1 locs1 hI1)
theorem k_X0_ml_gardenerAt_x {p : Program} {l : Launch} {e : Env} {R : Room} {s s0 : State} {b0 : Addr} {m : MethodId} {args : Array Value} {below : List Frame} {meth : Method} {c : Code} {H : Heap} {locs : List Loc} {cells slots : Nat} {Q : State → Prop} {pc : Nat} {ls : Array Slot} {rest : List Value} {G : va_G} {ai : Nat → ClassId} {A : Nat → Prop} {cc : ByteArray} {nL f L kc ks : Nat} {sa ma : Nat → Nat} {rf : Value} {tl : va_W}  {v : MS} {ml : MS} {a1 : Int32} {x1 : MX} {u1 : MS × MS}  (hC : mo_C p R s m args meth c G ai A RX0 cc nL f L kc ks) (h0 : mo_S0 s0 b0) (hZ : mo_Z s0 A s) (hI : mo_I G A s.heap (st_W ai sa v (ml_C ai s0 b0 sa ma rf ml ++ tl)) H locs) (hz : f_ml_gardenerAt v ml a1 = some (x1, u1)) (hx1 : isX x1 = true) (hf : 5 + 1 ≤ f) (hL : 8 + (2 + 11) + 110 ≤ L) (hsz : ls.size = nL) (hW : (rest.map fun v => v.category).sum ≤ 8) (hdg : decode cc pc = .ok (.invokevirtual 265, 3)) (kk : ∀ (da : Nat → Nat) (H1 : Heap) (locs1 : List Loc), mo_I G A s.heap (ex_W x1 da ++ (st_W ai sa u1.1 (ml_C ai s0 b0 sa ma rf u1.2 ++ tl))) H1 locs1 → vy_W p l e R s m args below meth c H1 locs1 (cells + 1) (slots + 7) Q (F0 m pc ls (rest)) (da 0)) (hc0 : cells + 1 ≤ kc := by first | exact Nat.le_of_ble_eq_true rfl | omega) (hs0 : slots + 7 ≤ ks := by first | exact Nat.le_of_ble_eq_true rfl | omega) : W p l e R s m args below meth c H locs cells slots Q (F0 m pc ls (.int a1 :: .ref (ma 0) :: rest)) :=
  xz_usex hC.2.2.2.2.2.2.2.1 hI (vy_runV (As := [.int a1]) (rest := rest) ⟨hC.1, hC.2.1, hC.2.2.1, hC.2.2.2.1, hC.2.2.2.2.1⟩ (w_ml_gardenerAt l G ai h0 v ml a1 x1 u1 hz H.size) (cwV 1 hC.2.2.2.2.1 (lw_V q970 q972 qs21 q115 q973) rfl rfl rfl (by decide +kernel) ⟨Nat.le_trans hf hC.2.2.2.2.2.2.2.2.1, Nat.le_trans hL hC.2.2.2.2.2.2.2.2.2.1⟩) ⟨gz_blind, (va_recv hC.2.2.2.2.2.2.1 hI.1 (ci := 1) (q0 := 18) rfl rfl), gz_pre0 hC hZ hI⟩ rfl rfl hsz rfl (lv_room hW) hdg ⟨Nat.le_trans hc0 hC.2.2.2.2.2.2.2.2.2.2.1, Nat.le_trans hs0 hC.2.2.2.2.2.2.2.2.2.2.2⟩) xz_nor hx1 (fun na1 da H1 locs1 hI1 => kk da H1 locs1 hI1)
def f_ml_beside (v : MS) (ml : MS) (k : Int32) (a2 : Int32) : Option ((MX × MS × MS)) := gd (gi k 4) (ov (f_Side_of a2) (fun r1 => if r1 = -1 then (lj (fun (v5 : MS) (ml6 : MS) (t7 : Int32) => xg (f_want t7 (-2)) (fun z9 => (v5, ml6)) (fun r10 z9 => none)) (fun j14_7 => j14_7 v ml 0)) else gd (gi r1 4) (lj (fun (v14 : MS) (ml15 : MS) (t16 : Int32) => xg (f_want t16 (-2)) (fun z18 => (v14, ml15)) (fun r19 z18 => lt ((p_sd r1 (v14 (6 + k.toNatClampNeg) 0))) (fun x4_23 => lj (fun (v24 : MS) (ml25 : MS) (t26 : Int32) => xg (f_allow t26 5 (v24 (6 + k.toNatClampNeg) 0)) (fun z28 => (v24, ml25)) (fun r29 z28 => some (mxO x4_23, (v24, ml25)))) (fun j39_26 => if x4_23 < 0 then (j39_26 v14 ml15 0) else (j39_26 v14 ml15 1))))) (fun j14_16 => j14_16 v ml 1))))
set_option maxHeartbeats 4000000 in
theorem w_ml_beside (l : Launch) (G : va_G) (ai : Nat → ClassId) {s0 : State} {b0 : Addr} (h0 : mo_S0 s0 b0) {sa ma : Nat → Nat} {rf : Value} {tl : va_W} (v : MS) (ml : MS) (k : Int32) (a2 : Int32) (r0 : MX) (u0 : MS × MS) (hF : f_ml_beside v ml k a2 = some (r0, u0)) : xz_Met l G ai s0 yX0_beside cX0_beside 5 (some .int) ({ frames := 6, cells := 2, slots := 15, locals := 135 } : Room) [.ref (ma 0), .ref (sa (10 + k.toNatClampNeg)), .int a2] (st_W ai sa v (ml_C ai s0 b0 sa ma rf ml ++ tl)) (fun A => xq_i G ai (fun (_ : Nat → Nat) => (st_W ai sa u0.1 (ml_C ai s0 b0 sa ma rf u0.2 ++ tl))) r0 A) r0 (fun (_ : Nat → Nat) => (st_W ai sa u0.1 (ml_C ai s0 b0 sa ma rf u0.2 ++ tl))) 2 15 := by
  refine xz_body (Qc := fun A => xq_i G ai (fun (_ : Nat → Nat) => (st_W ai sa u0.1 (ml_C ai s0 b0 sa ma rf u0.2 ++ tl))) r0 A) (by decide) (Nat.le_of_ble_eq_true rfl) ?_
  intro p e s m args below meth c A ls hC hZ hr hI hl hxt
  have hx := hC.1
  have hb := hC.2.1
  have hl : lv_has ls 5 [(0, .ref (ma 0)), (1, .ref (sa (10 + k.toNatClampNeg))), (2, .int a2)] := hl
  show W p l e _ s m args below meth c s.heap [] 0 0 (vy_MQ below (xq_i G ai (fun (_ : Nat → Nat) => (st_W ai sa u0.1 (ml_C ai s0 b0 sa ma rf u0.2 ++ tl))) r0 A) (xq_X G ai (fun (_ : Nat → Nat) => (st_W ai sa u0.1 (ml_C ai s0 b0 sa ma rf u0.2 ++ tl))) r0 A) args s 2 15 A) (F0 m 0 ls [])
  rw [f_ml_beside] at hF
  obtain ⟨hk1, hF⟩ := gd_some hF
  refine lv_iload_n hx hb dX0_beside_0 rfl (lv_at hl 2 rfl) ?_
  obtain ⟨r1, hz2, hF⟩ := ov_some hF
  refine k_X0_Side_of hC h0 hZ hI hz2 (Nat.le_of_ble_eq_true rfl) (Nat.le_of_ble_eq_true rfl) hl.1 (Nat.le_of_ble_eq_true rfl) dX0_beside_1 ?_
  by_cases c3 : r1 = -1
  · have hF := if_t hF c3
    rw [sd_null c3]
    refine lv_astore_nN (lv' := [(3, .null), (0, .ref (ma 0)), (1, .ref (sa (10 + k.toNatClampNeg))), (2, .int a2)]) hx hb dX0_beside_4 rfl hl (by decide) rfl (fun ls hl => ?_)
    refine lv_aload_nN hx hb dX0_beside_5 rfl (lv_at hl 0 rfl) ?_
    obtain ⟨j14_7, hj14_7, hF⟩ := lj_some hF
    have J14 : ∀ (v5 : MS) (ml6 : MS) (t7 : Int32) (H : Heap) (locs : List Loc) (ls : Array Slot), j14_7 v5 ml6 t7 = some (r0, u0) → mo_I G A s.heap (st_W ai sa v5 (ml_C ai s0 b0 sa ma rf ml6 ++ tl)) H locs → lv_has ls 5 [(3, .null), (1, .ref (sa (10 + k.toNatClampNeg)))] → W p l e ({ frames := 6, cells := 2, slots := 15, locals := 135 } : Room) s m args below meth c H locs (0) (0) (vy_MQ below (xq_i G ai (fun (_ : Nat → Nat) => (st_W ai sa u0.1 (ml_C ai s0 b0 sa ma rf u0.2 ++ tl))) r0 A) (xq_X G ai (fun (_ : Nat → Nat) => (st_W ai sa u0.1 (ml_C ai s0 b0 sa ma rf u0.2 ++ tl))) r0 A) args s 2 15 A) (F0 m 14 ls [.int t7]) := by
      intro v5 ml6 t7 H locs ls hF hI hl
      rw [hj14_7] at hF
      refine lv_bipush (v := (-2)) hx hb dX0_beside_14 (by decide) ?_
      rcases xg_some hF with ⟨r10, z9, hz12, hF⟩ | ⟨ex11, z9, hx13, hz12, hF⟩
      · refine k_X0_x_want hC h0 hZ hI hz12 (Nat.le_of_ble_eq_true rfl) (Nat.le_of_ble_eq_true rfl) hl.1 (Nat.le_of_ble_eq_true rfl) dX0_beside_16 (fun H locs hI => ?_)
        refine lv_aload_nN hx hb dX0_beside_19 rfl (lv_at hl 0 rfl) ?_
        refine lv_aload_n hx hb dX0_beside_20 rfl (lv_at hl 1 rfl) ?_
        refine st_X0_g_gard_square hC h0 hZ hI hk1 dX0_beside_21 ?_
        cases hF
      · cases hF
        exact k_X0_x_want_x hC h0 hZ hI hz12 hx13 (Nat.le_of_ble_eq_true rfl) (Nat.le_of_ble_eq_true rfl) hl.1 (Nat.le_of_ble_eq_true rfl) dX0_beside_16 (fun da H locs hI => xz_out (na := fun _ => 0) hC hxt hI hx13 (by first | exact Nat.le_of_ble_eq_true rfl | omega) (by first | exact Nat.le_of_ble_eq_true rfl | omega))
    refine lv_ifnullN (tgt := 13) hx hb dX0_beside_6 (by decide) ?_
    refine lv_iconst (v := 0) hx hb dX0_beside_13 (by decide) ?_
    exact J14 _ _ _ _ _ _ hF hI (lv_sub hl [0, 2] rfl)
  have hF := if_f hF c3
  obtain ⟨hg4, hF⟩ := gd_some hF
  rw [sd_ref hg4]
  refine lv_astore_n (lv' := [(3, .ref (sdv s0 b0 r1.toNatClampNeg)), (0, .ref (ma 0)), (1, .ref (sa (10 + k.toNatClampNeg))), (2, .int a2)]) hx hb dX0_beside_4 rfl hl (by decide) rfl (fun ls hl => ?_)
  refine lv_aload_n hx hb dX0_beside_5 rfl (lv_at hl 0 rfl) ?_
  obtain ⟨j14_16, hj14_16, hF⟩ := lj_some hF
  have J14 : ∀ (v14 : MS) (ml15 : MS) (t16 : Int32) (H : Heap) (locs : List Loc) (ls : Array Slot), j14_16 v14 ml15 t16 = some (r0, u0) → mo_I G A s.heap (st_W ai sa v14 (ml_C ai s0 b0 sa ma rf ml15 ++ tl)) H locs → lv_has ls 5 [(3, .ref (sdv s0 b0 r1.toNatClampNeg)), (1, .ref (sa (10 + k.toNatClampNeg)))] → W p l e ({ frames := 6, cells := 2, slots := 15, locals := 135 } : Room) s m args below meth c H locs (0) (0) (vy_MQ below (xq_i G ai (fun (_ : Nat → Nat) => (st_W ai sa u0.1 (ml_C ai s0 b0 sa ma rf u0.2 ++ tl))) r0 A) (xq_X G ai (fun (_ : Nat → Nat) => (st_W ai sa u0.1 (ml_C ai s0 b0 sa ma rf u0.2 ++ tl))) r0 A) args s 2 15 A) (F0 m 14 ls [.int t16]) := by
    intro v14 ml15 t16 H locs ls hF hI hl
    rw [hj14_16] at hF
    refine lv_bipush (v := (-2)) hx hb dX0_beside_14 (by decide) ?_
    rcases xg_some hF with ⟨r19, z18, hz21, hF⟩ | ⟨ex20, z18, hx22, hz21, hF⟩
    · refine k_X0_x_want hC h0 hZ hI hz21 (Nat.le_of_ble_eq_true rfl) (Nat.le_of_ble_eq_true rfl) hl.1 (Nat.le_of_ble_eq_true rfl) dX0_beside_16 (fun H locs hI => ?_)
      refine lv_aload_n hx hb dX0_beside_19 rfl (lv_at hl 0 rfl) ?_
      refine lv_aload_n hx hb dX0_beside_20 rfl (lv_at hl 1 rfl) ?_
      refine st_X0_g_gard_square hC h0 hZ hI hk1 dX0_beside_21 ?_
      refine k_X0_from hC h0 hZ hI hg4 (Nat.le_of_ble_eq_true rfl) (Nat.le_of_ble_eq_true rfl) hl.1 (Nat.le_of_ble_eq_true rfl) dX0_beside_24 ?_
      obtain ⟨x4_23, hx4_23, hF⟩ := lt_some hF
      refine mo_ist4 (lv' := [(4, .int x4_23), (3, .ref (sdv s0 b0 r1.toNatClampNeg)), (1, .ref (sa (10 + k.toNatClampNeg)))]) hx hb hx4_23 dX0_beside_27 hl (by decide) rfl (fun ls hl => ?_)
      refine lv_iload hx hb dX0_beside_29 (lv_at hl 0 rfl) ?_
      obtain ⟨j39_26, hj39_26, hF⟩ := lj_some hF
      have J39 : ∀ (v24 : MS) (ml25 : MS) (t26 : Int32) (H : Heap) (locs : List Loc) (ls : Array Slot), j39_26 v24 ml25 t26 = some (r0, u0) → mo_I G A s.heap (st_W ai sa v24 (ml_C ai s0 b0 sa ma rf ml25 ++ tl)) H locs → lv_has ls 5 [(4, .int x4_23), (1, .ref (sa (10 + k.toNatClampNeg)))] → W p l e ({ frames := 6, cells := 2, slots := 15, locals := 135 } : Room) s m args below meth c H locs (1) (7) (vy_MQ below (xq_i G ai (fun (_ : Nat → Nat) => (st_W ai sa u0.1 (ml_C ai s0 b0 sa ma rf u0.2 ++ tl))) r0 A) (xq_X G ai (fun (_ : Nat → Nat) => (st_W ai sa u0.1 (ml_C ai s0 b0 sa ma rf u0.2 ++ tl))) r0 A) args s 2 15 A) (F0 m 39 ls [.int t26]) := by
        intro v24 ml25 t26 H locs ls hF hI hl
        rw [hj39_26] at hF
        refine lv_iconst (v := 5) hx hb dX0_beside_39 (by decide) ?_
        refine lv_aload_n hx hb dX0_beside_40 rfl (lv_at hl 1 rfl) ?_
        refine st_X0_g_gard_square hC h0 hZ hI hk1 dX0_beside_41 ?_
        rcases xg_some hF with ⟨r29, z28, hz31, hF⟩ | ⟨ex30, z28, hx32, hz31, hF⟩
        · refine k_X0_x_allow hC h0 hZ hI hz31 (Nat.le_of_ble_eq_true rfl) (Nat.le_of_ble_eq_true rfl) hl.1 (Nat.le_of_ble_eq_true rfl) dX0_beside_44 (fun H locs hI => ?_)
          refine lv_iload hx hb dX0_beside_47 (lv_at hl 0 rfl) ?_
          cases hF
          exact xz_iret (na := fun _ => 0) hC hr rfl hI rfl (by first | exact Nat.le_of_ble_eq_true rfl | omega) (by first | exact Nat.le_of_ble_eq_true rfl | omega) dX0_beside_49
        · cases hF
          exact k_X0_x_allow_x hC h0 hZ hI hz31 hx32 (Nat.le_of_ble_eq_true rfl) (Nat.le_of_ble_eq_true rfl) hl.1 (Nat.le_of_ble_eq_true rfl) dX0_beside_44 (fun da H locs hI => xz_out (na := fun _ => 0) hC hxt hI hx32 (by first | exact Nat.le_of_ble_eq_true rfl | omega) (by first | exact Nat.le_of_ble_eq_true rfl | omega))
      refine lv_if_lt (tgt := 38) hx hb dX0_beside_31 (by decide) (fun c33 => ?_) (fun c33 => ?_)
      · have hF := if_t hF c33
        refine lv_iconst (v := 0) hx hb dX0_beside_38 (by decide) ?_
        exact J39 _ _ _ _ _ _ hF hI (lv_sub hl [0, 2] rfl)
      · have hF := if_f hF c33
        refine lv_iconst (v := 1) hx hb dX0_beside_34 (by decide) ?_
        refine lv_goto (tgt := 39) hx hb dX0_beside_35 (by decide) ?_
        exact J39 _ _ _ _ _ _ hF hI (lv_sub hl [0, 2] rfl)
    · cases hF
      exact k_X0_x_want_x hC h0 hZ hI hz21 hx22 (Nat.le_of_ble_eq_true rfl) (Nat.le_of_ble_eq_true rfl) hl.1 (Nat.le_of_ble_eq_true rfl) dX0_beside_16 (fun da H locs hI => xz_out (na := fun _ => 0) hC hxt hI hx22 (by first | exact Nat.le_of_ble_eq_true rfl | omega) (by first | exact Nat.le_of_ble_eq_true rfl | omega))
  refine lv_ifnull hx hb dX0_beside_6 ?_
  refine lv_iconst (v := 1) hx hb dX0_beside_9 (by decide) ?_
  refine lv_goto (tgt := 14) hx hb dX0_beside_10 (by decide) ?_
  exact J14 _ _ _ _ _ _ hF hI (lv_sub hl [0, 2] rfl)
theorem k_X0_ml_beside {p : Program} {l : Launch} {e : Env} {R : Room} {s s0 : State} {b0 : Addr} {m : MethodId} {args : Array Value} {below : List Frame} {meth : Method} {c : Code} {H : Heap} {locs : List Loc} {cells slots : Nat} {Q : State → Prop} {pc : Nat} {ls : Array Slot} {rest : List Value} {G : va_G} {ai : Nat → ClassId} {A : Nat → Prop} {cc : ByteArray} {nL f L kc ks : Nat} {sa ma : Nat → Nat} {rf : Value} {tl : va_W}  {v : MS} {ml : MS} {k : Int32} {a2 : Int32} {r1 : Int32} {u1 : MS × MS}  (hC : mo_C p R s m args meth c G ai A RX0 cc nL f L kc ks) (h0 : mo_S0 s0 b0) (hZ : mo_Z s0 A s) (hI : mo_I G A s.heap (st_W ai sa v (ml_C ai s0 b0 sa ma rf ml ++ tl)) H locs) (hjk : gi k 4 = true) (hz : f_ml_beside v ml k a2 = some (mxO r1, u1)) (hf : 6 + 1 ≤ f) (hL : 8 + (5 + 11) + 135 ≤ L) (hsz : ls.size = nL) (hW : (rest.map fun v => v.category).sum ≤ 8) (hdg : decode cc pc = .ok (.invokevirtual 269, 3)) (kk : ∀ (H1 : Heap) (locs1 : List Loc), mo_I G A s.heap (st_W ai sa u1.1 (ml_C ai s0 b0 sa ma rf u1.2 ++ tl)) H1 locs1 → W p l e R s m args below meth c H1 locs1 (cells + 2) (slots + 15) Q (F0 m (pc + 3) ls (.int r1 :: rest))) (hc0 : cells + 2 ≤ kc := by first | exact Nat.le_of_ble_eq_true rfl | omega) (hs0 : slots + 15 ≤ ks := by first | exact Nat.le_of_ble_eq_true rfl | omega) : W p l e R s m args below meth c H locs cells slots Q (F0 m pc ls (.int a2 :: .ref (sa (10 + k.toNatClampNeg)) :: .ref (ma 0) :: rest)) :=
  xz_usei hC.2.2.2.2.2.2.2.1 hI (vy_runV (As := [.ref (sa (10 + k.toNatClampNeg)), .int a2]) (rest := rest) ⟨hC.1, hC.2.1, hC.2.2.1, hC.2.2.2.1, hC.2.2.2.2.1⟩ (w_ml_beside l G ai h0 v ml k a2 (mxO r1) u1 hz H.size) (cwV 2 hC.2.2.2.2.1 (lw_V q974 q976 qs22 q115 q977) rfl rfl rfl (by decide +kernel) ⟨Nat.le_trans hf hC.2.2.2.2.2.2.2.2.1, Nat.le_trans hL hC.2.2.2.2.2.2.2.2.2.1⟩) ⟨gz_blind, (va_recv hC.2.2.2.2.2.2.1 hI.1 (ci := 1) (q0 := 18) rfl rfl), gz_pre0 hC hZ hI⟩ rfl rfl hsz rfl (lv_room hW) hdg ⟨Nat.le_trans hc0 hC.2.2.2.2.2.2.2.2.2.2.1, Nat.le_trans hs0 hC.2.2.2.2.2.2.2.2.2.2.2⟩) rfl (fun na1 H1 locs1 hI1 => kk H1 locs1 hI1)
theorem k_X0_ml_beside_x {p : Program} {l : Launch} {e : Env} {R : Room} {s s0 : State} {b0 : Addr} {m : MethodId} {args : Array Value} {below : List Frame} {meth : Method} {c : Code} {H : Heap} {locs : List Loc} {cells slots : Nat} {Q : State → Prop} {pc : Nat} {ls : Array Slot} {rest : List Value} {G : va_G} {ai : Nat → ClassId} {A : Nat → Prop} {cc : ByteArray} {nL f L kc ks : Nat} {sa ma : Nat → Nat} {rf : Value} {tl : va_W}  {v : MS} {ml : MS} {k : Int32} {a2 : Int32} {x1 : MX} {u1 : MS × MS}  (hC : mo_C p R s m args meth c G ai A RX0 cc nL f L kc ks) (h0 : mo_S0 s0 b0) (hZ : mo_Z s0 A s) (hI : mo_I G A s.heap (st_W ai sa v (ml_C ai s0 b0 sa ma rf ml ++ tl)) H locs) (hjk : gi k 4 = true) (hz : f_ml_beside v ml k a2 = some (x1, u1)) (hx1 : isX x1 = true) (hf : 6 + 1 ≤ f) (hL : 8 + (5 + 11) + 135 ≤ L) (hsz : ls.size = nL) (hW : (rest.map fun v => v.category).sum ≤ 8) (hdg : decode cc pc = .ok (.invokevirtual 269, 3)) (kk : ∀ (da : Nat → Nat) (H1 : Heap) (locs1 : List Loc), mo_I G A s.heap (ex_W x1 da ++ (st_W ai sa u1.1 (ml_C ai s0 b0 sa ma rf u1.2 ++ tl))) H1 locs1 → vy_W p l e R s m args below meth c H1 locs1 (cells + 2) (slots + 15) Q (F0 m pc ls (rest)) (da 0)) (hc0 : cells + 2 ≤ kc := by first | exact Nat.le_of_ble_eq_true rfl | omega) (hs0 : slots + 15 ≤ ks := by first | exact Nat.le_of_ble_eq_true rfl | omega) : W p l e R s m args below meth c H locs cells slots Q (F0 m pc ls (.int a2 :: .ref (sa (10 + k.toNatClampNeg)) :: .ref (ma 0) :: rest)) :=
  xz_usex hC.2.2.2.2.2.2.2.1 hI (vy_runV (As := [.ref (sa (10 + k.toNatClampNeg)), .int a2]) (rest := rest) ⟨hC.1, hC.2.1, hC.2.2.1, hC.2.2.2.1, hC.2.2.2.2.1⟩ (w_ml_beside l G ai h0 v ml k a2 x1 u1 hz H.size) (cwV 2 hC.2.2.2.2.1 (lw_V q974 q976 qs22 q115 q977) rfl rfl rfl (by decide +kernel) ⟨Nat.le_trans hf hC.2.2.2.2.2.2.2.2.1, Nat.le_trans hL hC.2.2.2.2.2.2.2.2.2.1⟩) ⟨gz_blind, (va_recv hC.2.2.2.2.2.2.1 hI.1 (ci := 1) (q0 := 18) rfl rfl), gz_pre0 hC hZ hI⟩ rfl rfl hsz rfl (lv_room hW) hdg ⟨Nat.le_trans hc0 hC.2.2.2.2.2.2.2.2.2.2.1, Nat.le_trans hs0 hC.2.2.2.2.2.2.2.2.2.2.2⟩) xz_noi hx1 (fun na1 da H1 locs1 hI1 => kk da H1 locs1 hI1)

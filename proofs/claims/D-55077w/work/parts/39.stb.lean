set_option maxRecDepth 100000
theorem st_X1_g_st_stones {p : Program} {l : Launch} {e : Env} {R : Room} {s s0 : State} {b0 : Addr} {m : MethodId} {args : Array Value} {below : List Frame} {meth : Method} {c : Code} {H : Heap} {locs : List Loc} {cells slots : Nat} {Q : State → Prop} {pc : Nat} {ls : Array Slot} {rest : List Value} {G : va_G} {ai : Nat → ClassId} {A : Nat → Prop} {cc : ByteArray} {nL f L kc ks : Nat} {sa : Nat → Nat} {tl : va_W} {v : MS} (hC : mo_C p R s m args meth c G ai A RX1 cc nL f L kc ks) (h0 : mo_S0 s0 b0) (hZ : mo_Z s0 A s) (hI : mo_I G A s.heap (st_W ai sa v tl) H locs) (hdg : decode cc pc = .ok (.getfield 26, 3)) (kk : W p l e R s m args below meth c H locs cells slots Q (F0 m (pc + 3) ls (.ref (sa 4) :: rest))) : W p l e R s m args below meth c H locs cells slots Q (F0 m pc ls (.ref (sa 0) :: rest)) :=
  va_get (D := G) (ci := 2) (C := RX1) (T := TX1) (N := 19) hC.1 hC.2.1 hC.2.2.2.2.1 in_X1 hC.2.2.2.1 hC.2.2.2.2.2.2.1 hI.1 0 rfl rfl 3 (by decide) (hC.2.2.2.2.1 _ q308) (fun _ h9 => h9) rfl hdg kk
theorem st_X1_stones_get {p : Program} {l : Launch} {e : Env} {R : Room} {s s0 : State} {b0 : Addr} {m : MethodId} {args : Array Value} {below : List Frame} {meth : Method} {c : Code} {H : Heap} {locs : List Loc} {cells slots : Nat} {Q : State → Prop} {pc : Nat} {ls : Array Slot} {rest : List Value} {G : va_G} {ai : Nat → ClassId} {A : Nat → Prop} {cc : ByteArray} {nL f L kc ks : Nat} {sa : Nat → Nat} {tl : va_W} {v : MS} {q r1 : Int32} (hC : mo_C p R s m args meth c G ai A RX1 cc nL f L kc ks) (h0 : mo_S0 s0 b0) (hZ : mo_Z s0 A s) (hI : mo_I G A s.heap (st_W ai sa v tl) H locs) (hz : bs_get (v 4) q = some r1) (hf : 1 + 1 ≤ f) (hL : 8 + (3 + 11) + 20 ≤ L) (hsz : ls.size = nL) (hW : (rest.map fun v => v.category).sum ≤ 8) (hdg : decode cc pc = .ok (.invokevirtual 151, 3)) (kk : W p l e R s m args below meth c H locs cells slots Q (F0 m (pc + 3) ls (.int r1 :: rest))) (hc0 : cells ≤ kc := by first | exact Nat.zero_le _ | exact Nat.le_of_ble_eq_true rfl | assumption | omega) (hs0 : slots ≤ ks := by first | exact Nat.zero_le _ | exact Nat.le_of_ble_eq_true rfl | assumption | omega) : W p l e R s m args below meth c H locs cells slots Q (F0 m pc ls (.int q :: .ref (sa 4) :: rest)) := by
  have hI' := mo_Iperm (st_p4 (ai := ai) (sa := sa) (c := v) (tl := tl)) hI
  exact rd_use (va_runV (As := [.int q]) (rest := rest) ⟨hC.1, hC.2.1, hC.2.2.1, hC.2.2.2.1, hC.2.2.2.2.1⟩ (wa_get h0 hz H.size) (cwV 1 hC.2.2.2.2.1 (lw_V q1072 q861 q862 q117 q863) rfl rfl rfl (by decide +kernel) ⟨Nat.le_trans hf hC.2.2.2.2.2.2.2.2.1, Nat.le_trans hL hC.2.2.2.2.2.2.2.2.2.1⟩) ⟨gz_blind, (va_recv hC.2.2.2.2.2.2.1 hI'.1 (ci := 13) (q0 := 0) rfl rfl), gz_pre0 hC hZ hI'⟩ rfl rfl hsz rfl (lv_room hW) hdg ⟨Nat.le_trans hc0 hC.2.2.2.2.2.2.2.2.2.2.1, Nat.le_trans hs0 hC.2.2.2.2.2.2.2.2.2.2.2⟩) kk
theorem st_X1_g_mole_isCaught {p : Program} {l : Launch} {e : Env} {R : Room} {s s0 : State} {b0 : Addr} {m : MethodId} {args : Array Value} {below : List Frame} {meth : Method} {c : Code} {H : Heap} {locs : List Loc} {cells slots : Nat} {Q : State → Prop} {pc : Nat} {ls : Array Slot} {rest : List Value} {G : va_G} {ai : Nat → ClassId} {A : Nat → Prop} {cc : ByteArray} {nL f L kc ks : Nat} {sa : Nat → Nat} {tl : va_W} {v : MS} {k : Int32} (hC : mo_C p R s m args meth c G ai A RX1 cc nL f L kc ks) (h0 : mo_S0 s0 b0) (hZ : mo_Z s0 A s) (hI : mo_I G A s.heap (st_W ai sa v tl) H locs) (hj : gi k 3 = true) (hdg : decode cc pc = .ok (.getfield 155, 3)) (kk : W p l e R s m args below meth c H locs cells slots Q (F0 m (pc + 3) ls (.int (v (10 + k.toNatClampNeg) 1) :: rest))) : W p l e R s m args below meth c H locs cells slots Q (F0 m pc ls (.ref (sa (14 + k.toNatClampNeg)) :: rest)) := by
  obtain ⟨j, hj1, -, hc⟩ := gi_nI (by decide) hj
  rw [hc] at kk ⊢
  exact va_getN (D := G) (ci := 4) (C := RX3) (T := TX3) (N := 3) hC.1 hC.2.1 hC.2.2.2.2.1 in_X3 hC.2.2.2.1 hC.2.2.2.2.2.2.1 hI.1 (11 + j) (st_hm j hj1) rfl 1 (by decide) (mo_nF h0 hZ q278) (fun _ h9 => h9) rfl hdg kk
theorem st_X1_g_mole_square {p : Program} {l : Launch} {e : Env} {R : Room} {s s0 : State} {b0 : Addr} {m : MethodId} {args : Array Value} {below : List Frame} {meth : Method} {c : Code} {H : Heap} {locs : List Loc} {cells slots : Nat} {Q : State → Prop} {pc : Nat} {ls : Array Slot} {rest : List Value} {G : va_G} {ai : Nat → ClassId} {A : Nat → Prop} {cc : ByteArray} {nL f L kc ks : Nat} {sa : Nat → Nat} {tl : va_W} {v : MS} {k : Int32} (hC : mo_C p R s m args meth c G ai A RX1 cc nL f L kc ks) (h0 : mo_S0 s0 b0) (hZ : mo_Z s0 A s) (hI : mo_I G A s.heap (st_W ai sa v tl) H locs) (hj : gi k 3 = true) (hdg : decode cc pc = .ok (.getfield 159, 3)) (kk : W p l e R s m args below meth c H locs cells slots Q (F0 m (pc + 3) ls (.int (v (10 + k.toNatClampNeg) 0) :: rest))) : W p l e R s m args below meth c H locs cells slots Q (F0 m pc ls (.ref (sa (14 + k.toNatClampNeg)) :: rest)) := by
  obtain ⟨j, hj1, -, hc⟩ := gi_nI (by decide) hj
  rw [hc] at kk ⊢
  exact va_getN (D := G) (ci := 4) (C := RX3) (T := TX3) (N := 3) hC.1 hC.2.1 hC.2.2.2.2.1 in_X3 hC.2.2.2.1 hC.2.2.2.2.2.2.1 hI.1 (11 + j) (st_hm j hj1) rfl 0 (by decide) (mo_nF h0 hZ q275) (fun _ h9 => h9) rfl hdg kk
theorem st_X1_g_mole_took {p : Program} {l : Launch} {e : Env} {R : Room} {s s0 : State} {b0 : Addr} {m : MethodId} {args : Array Value} {below : List Frame} {meth : Method} {c : Code} {H : Heap} {locs : List Loc} {cells slots : Nat} {Q : State → Prop} {pc : Nat} {ls : Array Slot} {rest : List Value} {G : va_G} {ai : Nat → ClassId} {A : Nat → Prop} {cc : ByteArray} {nL f L kc ks : Nat} {sa : Nat → Nat} {tl : va_W} {v : MS} {k : Int32} (hC : mo_C p R s m args meth c G ai A RX1 cc nL f L kc ks) (h0 : mo_S0 s0 b0) (hZ : mo_Z s0 A s) (hI : mo_I G A s.heap (st_W ai sa v tl) H locs) (hj : gi k 3 = true) (hdg : decode cc pc = .ok (.getfield 162, 3)) (kk : W p l e R s m args below meth c H locs cells slots Q (F0 m (pc + 3) ls (.int (v (10 + k.toNatClampNeg) 2) :: rest))) : W p l e R s m args below meth c H locs cells slots Q (F0 m pc ls (.ref (sa (14 + k.toNatClampNeg)) :: rest)) := by
  obtain ⟨j, hj1, -, hc⟩ := gi_nI (by decide) hj
  rw [hc] at kk ⊢
  exact va_getN (D := G) (ci := 4) (C := RX3) (T := TX3) (N := 3) hC.1 hC.2.1 hC.2.2.2.2.1 in_X3 hC.2.2.2.1 hC.2.2.2.2.2.2.1 hI.1 (11 + j) (st_hm j hj1) rfl 2 (by decide) (mo_nF h0 hZ q281) (fun _ h9 => h9) rfl hdg kk
theorem st_X1_p_mole_took {p : Program} {l : Launch} {e : Env} {R : Room} {s s0 : State} {b0 : Addr} {m : MethodId} {args : Array Value} {below : List Frame} {meth : Method} {c : Code} {H : Heap} {locs : List Loc} {cells slots : Nat} {Q : State → Prop} {pc : Nat} {ls : Array Slot} {rest : List Value} {G : va_G} {ai : Nat → ClassId} {A : Nat → Prop} {cc : ByteArray} {nL f L kc ks : Nat} {sa : Nat → Nat} {tl : va_W} {v : MS} {k x : Int32} {z1 : MS} (hC : mo_C p R s m args meth c G ai A RX1 cc nL f L kc ks) (h0 : mo_S0 s0 b0) (hZ : mo_Z s0 A s) (hI : mo_I G A s.heap (st_W ai sa v tl) H locs) (hj : gi k 3 = true) (hM : z1 = rup v (10 + k.toNatClampNeg) (upd (v (10 + k.toNatClampNeg)) 2 x)) (hdg : decode cc pc = .ok (.putfield 162, 3)) (kk : ∀ (H1 : Heap) (locs1 : List Loc), mo_I G A s.heap (st_W ai sa z1 tl) H1 locs1 → W p l e R s m args below meth c H1 locs1 cells slots Q (F0 m (pc + 3) ls (rest))) : W p l e R s m args below meth c H locs cells slots Q (F0 m pc ls (.int x :: .ref (sa (14 + k.toNatClampNeg)) :: rest)) := by
  subst z1
  obtain ⟨j, hj1, -, hc⟩ := gi_nI (by decide) hj
  rw [hc] at kk ⊢
  refine va_putN (D := G) (ci := 4) (v := .int x) (ty := .int) (C := RX3) (T := TX3) (N := 3) hC.1 hC.2.1 hC.2.2.2.2.1 in_X3 tyX3 tyX3_ok nmX3 hC.2.2.2.1 hC.2.2.2.2.2.2.1 hI.1 hI.2.1 hI.2.2 (11 + j) (st_hm j hj1) rfl 2 (by decide) (mo_nF h0 hZ q281) (fun _ h9 => h9) rfl (by decide +kernel) rfl rfl (Nat.le_of_ble_eq_true rfl) hdg (fun H locs hP hD hS => ?_)
  rw [st_sm (by decide) j hj1] at hP hD
  exact kk H locs ⟨hP, hD, hS⟩
theorem st_X1_p_mole_square {p : Program} {l : Launch} {e : Env} {R : Room} {s s0 : State} {b0 : Addr} {m : MethodId} {args : Array Value} {below : List Frame} {meth : Method} {c : Code} {H : Heap} {locs : List Loc} {cells slots : Nat} {Q : State → Prop} {pc : Nat} {ls : Array Slot} {rest : List Value} {G : va_G} {ai : Nat → ClassId} {A : Nat → Prop} {cc : ByteArray} {nL f L kc ks : Nat} {sa : Nat → Nat} {tl : va_W} {v : MS} {k x : Int32} {z1 : MS} (hC : mo_C p R s m args meth c G ai A RX1 cc nL f L kc ks) (h0 : mo_S0 s0 b0) (hZ : mo_Z s0 A s) (hI : mo_I G A s.heap (st_W ai sa v tl) H locs) (hj : gi k 3 = true) (hM : z1 = rup v (10 + k.toNatClampNeg) (upd (v (10 + k.toNatClampNeg)) 0 x)) (hdg : decode cc pc = .ok (.putfield 159, 3)) (kk : ∀ (H1 : Heap) (locs1 : List Loc), mo_I G A s.heap (st_W ai sa z1 tl) H1 locs1 → W p l e R s m args below meth c H1 locs1 cells slots Q (F0 m (pc + 3) ls (rest))) : W p l e R s m args below meth c H locs cells slots Q (F0 m pc ls (.int x :: .ref (sa (14 + k.toNatClampNeg)) :: rest)) := by
  subst z1
  obtain ⟨j, hj1, -, hc⟩ := gi_nI (by decide) hj
  rw [hc] at kk ⊢
  refine va_putN (D := G) (ci := 4) (v := .int x) (ty := .int) (C := RX3) (T := TX3) (N := 3) hC.1 hC.2.1 hC.2.2.2.2.1 in_X3 tyX3 tyX3_ok nmX3 hC.2.2.2.1 hC.2.2.2.2.2.2.1 hI.1 hI.2.1 hI.2.2 (11 + j) (st_hm j hj1) rfl 0 (by decide) (mo_nF h0 hZ q275) (fun _ h9 => h9) rfl (by decide +kernel) rfl rfl (Nat.le_of_ble_eq_true rfl) hdg (fun H locs hP hD hS => ?_)
  rw [st_sm (by decide) j hj1] at hP hD
  exact kk H locs ⟨hP, hD, hS⟩
theorem st_X1_p_mole_isCaught {p : Program} {l : Launch} {e : Env} {R : Room} {s s0 : State} {b0 : Addr} {m : MethodId} {args : Array Value} {below : List Frame} {meth : Method} {c : Code} {H : Heap} {locs : List Loc} {cells slots : Nat} {Q : State → Prop} {pc : Nat} {ls : Array Slot} {rest : List Value} {G : va_G} {ai : Nat → ClassId} {A : Nat → Prop} {cc : ByteArray} {nL f L kc ks : Nat} {sa : Nat → Nat} {tl : va_W} {v : MS} {k x : Int32} {z1 : MS} (hC : mo_C p R s m args meth c G ai A RX1 cc nL f L kc ks) (h0 : mo_S0 s0 b0) (hZ : mo_Z s0 A s) (hI : mo_I G A s.heap (st_W ai sa v tl) H locs) (hj : gi k 3 = true) (hz : x = 0 ∨ x = 1) (hM : z1 = rup v (10 + k.toNatClampNeg) (upd (v (10 + k.toNatClampNeg)) 1 x)) (hdg : decode cc pc = .ok (.putfield 155, 3)) (kk : ∀ (H1 : Heap) (locs1 : List Loc), mo_I G A s.heap (st_W ai sa z1 tl) H1 locs1 → W p l e R s m args below meth c H1 locs1 cells slots Q (F0 m (pc + 3) ls (rest))) : W p l e R s m args below meth c H locs cells slots Q (F0 m pc ls (.int x :: .ref (sa (14 + k.toNatClampNeg)) :: rest)) := by
  subst z1
  obtain ⟨j, hj1, -, hc⟩ := gi_nI (by decide) hj
  rw [hc] at kk ⊢
  refine va_putN (D := G) (ci := 4) (v := .int x) (ty := .boolean) (C := RX3) (T := TX3) (N := 3) hC.1 hC.2.1 hC.2.2.2.2.1 in_X3 tyX3 tyX3_ok nmX3 hC.2.2.2.1 hC.2.2.2.2.2.2.1 hI.1 hI.2.1 hI.2.2 (11 + j) (st_hm j hj1) rfl 1 (by decide) (mo_nF h0 hZ q278) (fun _ h9 => h9) rfl (by decide +kernel) (by rcases hz with h | h <;> (rw [h]; rfl)) (by rcases hz with h | h <;> (rw [h]; rfl)) (Nat.le_of_ble_eq_true rfl) hdg (fun H locs hP hD hS => ?_)
  rw [st_sm (by decide) j hj1] at hP hD
  exact kk H locs ⟨hP, hD, hS⟩
theorem st_X1_g_st_traps {p : Program} {l : Launch} {e : Env} {R : Room} {s s0 : State} {b0 : Addr} {m : MethodId} {args : Array Value} {below : List Frame} {meth : Method} {c : Code} {H : Heap} {locs : List Loc} {cells slots : Nat} {Q : State → Prop} {pc : Nat} {ls : Array Slot} {rest : List Value} {G : va_G} {ai : Nat → ClassId} {A : Nat → Prop} {cc : ByteArray} {nL f L kc ks : Nat} {sa : Nat → Nat} {tl : va_W} {v : MS} (hC : mo_C p R s m args meth c G ai A RX1 cc nL f L kc ks) (h0 : mo_S0 s0 b0) (hZ : mo_Z s0 A s) (hI : mo_I G A s.heap (st_W ai sa v tl) H locs) (hdg : decode cc pc = .ok (.getfield 30, 3)) (kk : W p l e R s m args below meth c H locs cells slots Q (F0 m (pc + 3) ls (.ref (sa 5) :: rest))) : W p l e R s m args below meth c H locs cells slots Q (F0 m pc ls (.ref (sa 0) :: rest)) :=
  va_get (D := G) (ci := 2) (C := RX1) (T := TX1) (N := 19) hC.1 hC.2.1 hC.2.2.2.2.1 in_X1 hC.2.2.2.1 hC.2.2.2.2.2.2.1 hI.1 0 rfl rfl 4 (by decide) (hC.2.2.2.2.1 _ q310) (fun _ h9 => h9) rfl hdg kk
theorem st_X1_traps_clr {p : Program} {l : Launch} {e : Env} {R : Room} {s s0 : State} {b0 : Addr} {m : MethodId} {args : Array Value} {below : List Frame} {meth : Method} {c : Code} {H : Heap} {locs : List Loc} {cells slots : Nat} {Q : State → Prop} {pc : Nat} {ls : Array Slot} {rest : List Value} {G : va_G} {ai : Nat → ClassId} {A : Nat → Prop} {cc : ByteArray} {nL f L kc ks : Nat} {sa : Nat → Nat} {tl : va_W} {v : MS} {q : Int32} {z1 : MS} (hC : mo_C p R s m args meth c G ai A RX1 cc nL f L kc ks) (h0 : mo_S0 s0 b0) (hZ : mo_Z s0 A s) (hI : mo_I G A s.heap (st_W ai sa v tl) H locs) (hg : gi q 30 = true) (hM : z1 = rup v 5 (upd (v 5) q.toNatClampNeg 0)) (hf : 1 + 1 ≤ f) (hL : 8 + (3 + 11) + 21 ≤ L) (hsz : ls.size = nL) (hW : (rest.map fun v => v.category).sum ≤ 8) (hdg : decode cc pc = .ok (.invokevirtual 168, 3)) (kk : ∀ (H1 : Heap) (locs1 : List Loc), mo_I G A s.heap (st_W ai sa z1 tl) H1 locs1 → W p l e R s m args below meth c H1 locs1 cells slots Q (F0 m (pc + 3) ls (rest))) (hc0 : cells ≤ kc := by first | exact Nat.zero_le _ | exact Nat.le_of_ble_eq_true rfl | assumption | omega) (hs0 : slots ≤ ks := by first | exact Nat.zero_le _ | exact Nat.le_of_ble_eq_true rfl | assumption | omega) : W p l e R s m args below meth c H locs cells slots Q (F0 m pc ls (.int q :: .ref (sa 5) :: rest)) := by
  have hI' := mo_Iperm (st_p5 (ai := ai) (sa := sa) (c := v) (tl := tl)) hI
  subst z1
  exact gz_usev0 hC.2.2.2.2.2.2.2.1 hI' (va_runV (As := [.int q]) (rest := rest) ⟨hC.1, hC.2.1, hC.2.2.1, hC.2.2.2.1, hC.2.2.2.2.1⟩ (wa_clr h0 hg H.size) (cwV 1 hC.2.2.2.2.1 (lw_V q1123 q1124 q1125 q117 q1126) rfl rfl rfl (by decide +kernel) ⟨Nat.le_trans hf hC.2.2.2.2.2.2.2.2.1, Nat.le_trans hL hC.2.2.2.2.2.2.2.2.2.1⟩) ⟨gz_blind, (va_recv hC.2.2.2.2.2.2.1 hI'.1 (ci := 13) (q0 := 0) rfl rfl), gz_pre0 hC hZ hI'⟩ rfl rfl hsz rfl (lv_room hW) hdg ⟨Nat.le_trans hc0 hC.2.2.2.2.2.2.2.2.2.2.1, Nat.le_trans hs0 hC.2.2.2.2.2.2.2.2.2.2.2⟩) (fun u H1 locs1 hp hI1 => by cases hp; exact kk H1 locs1 (mo_Iperm ((st_p5 (ai := ai) (sa := sa) (c := (rup v 5 (upd (v 5) q.toNatClampNeg 0))) (tl := tl))).symm hI1))
theorem st_X1_traps_get {p : Program} {l : Launch} {e : Env} {R : Room} {s s0 : State} {b0 : Addr} {m : MethodId} {args : Array Value} {below : List Frame} {meth : Method} {c : Code} {H : Heap} {locs : List Loc} {cells slots : Nat} {Q : State → Prop} {pc : Nat} {ls : Array Slot} {rest : List Value} {G : va_G} {ai : Nat → ClassId} {A : Nat → Prop} {cc : ByteArray} {nL f L kc ks : Nat} {sa : Nat → Nat} {tl : va_W} {v : MS} {q r1 : Int32} (hC : mo_C p R s m args meth c G ai A RX1 cc nL f L kc ks) (h0 : mo_S0 s0 b0) (hZ : mo_Z s0 A s) (hI : mo_I G A s.heap (st_W ai sa v tl) H locs) (hz : bs_get (v 5) q = some r1) (hf : 1 + 1 ≤ f) (hL : 8 + (3 + 11) + 20 ≤ L) (hsz : ls.size = nL) (hW : (rest.map fun v => v.category).sum ≤ 8) (hdg : decode cc pc = .ok (.invokevirtual 151, 3)) (kk : W p l e R s m args below meth c H locs cells slots Q (F0 m (pc + 3) ls (.int r1 :: rest))) (hc0 : cells ≤ kc := by first | exact Nat.zero_le _ | exact Nat.le_of_ble_eq_true rfl | assumption | omega) (hs0 : slots ≤ ks := by first | exact Nat.zero_le _ | exact Nat.le_of_ble_eq_true rfl | assumption | omega) : W p l e R s m args below meth c H locs cells slots Q (F0 m pc ls (.int q :: .ref (sa 5) :: rest)) := by
  have hI' := mo_Iperm (st_p5 (ai := ai) (sa := sa) (c := v) (tl := tl)) hI
  exact rd_use (va_runV (As := [.int q]) (rest := rest) ⟨hC.1, hC.2.1, hC.2.2.1, hC.2.2.2.1, hC.2.2.2.2.1⟩ (wa_get h0 hz H.size) (cwV 1 hC.2.2.2.2.1 (lw_V q1072 q861 q862 q117 q863) rfl rfl rfl (by decide +kernel) ⟨Nat.le_trans hf hC.2.2.2.2.2.2.2.2.1, Nat.le_trans hL hC.2.2.2.2.2.2.2.2.2.1⟩) ⟨gz_blind, (va_recv hC.2.2.2.2.2.2.1 hI'.1 (ci := 13) (q0 := 0) rfl rfl), gz_pre0 hC hZ hI'⟩ rfl rfl hsz rfl (lv_room hW) hdg ⟨Nat.le_trans hc0 hC.2.2.2.2.2.2.2.2.2.2.1, Nat.le_trans hs0 hC.2.2.2.2.2.2.2.2.2.2.2⟩) kk
theorem st_s_leaves {own : String} {p : Program} {l : Launch} {e : Env} {R : Room} {s : State} {m : MethodId} {args : Array Value} {below : List Frame} {meth : Method} {c : Code} {H : Heap} {locs : List Loc} {cells slots : Nat} {Q : State → Prop} {pc : Nat} {ls : Array Slot} {rest : List Value} {G : va_G} {ai : Nat → ClassId} {A : Nat → Prop} {cc : ByteArray} {nL f L kc ks : Nat} {sa : Nat → Nat} {tl : va_W} {v : MS} {j : Int32} {x : Int32} {z1 : MS} (hC : mo_C p R s m args meth c G ai A own cc nL f L kc ks) (hI : mo_I G A s.heap (st_W ai sa v tl) H locs) (hg : gi j 30 = true) (hM : z1 = rup v 3 (upd (v 3) j.toNatClampNeg x)) (hdg : decode cc pc = .ok (.iastore, 1)) (kk : ∀ (H1 : Heap) (locs1 : List Loc), mo_I G A s.heap (st_W ai sa z1 tl) H1 locs1 → W p l e R s m args below meth c H1 locs1 cells slots Q (F0 m (pc + 1) ls (rest))) : W p l e R s m args below meth c H locs cells slots Q (F0 m pc ls (.int x :: .int j :: .ref (sa 3) :: rest)) := by
  subst z1
  exact va_iast hC.1 hC.2.1 hC.2.2.2.2.2.2.1 hI.1 hI.2.1 hI.2.2 3 0 rfl rfl (gi_in hg) hdg (fun H locs hP hD hS => kk H locs ⟨hP, hD, hS⟩)
theorem st_X1_g_st_moleMany {p : Program} {l : Launch} {e : Env} {R : Room} {s s0 : State} {b0 : Addr} {m : MethodId} {args : Array Value} {below : List Frame} {meth : Method} {c : Code} {H : Heap} {locs : List Loc} {cells slots : Nat} {Q : State → Prop} {pc : Nat} {ls : Array Slot} {rest : List Value} {G : va_G} {ai : Nat → ClassId} {A : Nat → Prop} {cc : ByteArray} {nL f L kc ks : Nat} {sa : Nat → Nat} {tl : va_W} {v : MS} (hC : mo_C p R s m args meth c G ai A RX1 cc nL f L kc ks) (h0 : mo_S0 s0 b0) (hZ : mo_Z s0 A s) (hI : mo_I G A s.heap (st_W ai sa v tl) H locs) (hdg : decode cc pc = .ok (.getfield 67, 3)) (kk : W p l e R s m args below meth c H locs cells slots Q (F0 m (pc + 3) ls (.int (v 0 8) :: rest))) : W p l e R s m args below meth c H locs cells slots Q (F0 m pc ls (.ref (sa 0) :: rest)) :=
  va_get (D := G) (ci := 2) (C := RX1) (T := TX1) (N := 19) hC.1 hC.2.1 hC.2.2.2.2.1 in_X1 hC.2.2.2.1 hC.2.2.2.2.2.2.1 hI.1 0 rfl rfl 8 (by decide) (hC.2.2.2.2.1 _ q318) (fun _ h9 => h9) rfl hdg kk
theorem st_X1_g_st_moles {p : Program} {l : Launch} {e : Env} {R : Room} {s s0 : State} {b0 : Addr} {m : MethodId} {args : Array Value} {below : List Frame} {meth : Method} {c : Code} {H : Heap} {locs : List Loc} {cells slots : Nat} {Q : State → Prop} {pc : Nat} {ls : Array Slot} {rest : List Value} {G : va_G} {ai : Nat → ClassId} {A : Nat → Prop} {cc : ByteArray} {nL f L kc ks : Nat} {sa : Nat → Nat} {tl : va_W} {v : MS} (hC : mo_C p R s m args meth c G ai A RX1 cc nL f L kc ks) (h0 : mo_S0 s0 b0) (hZ : mo_Z s0 A s) (hI : mo_I G A s.heap (st_W ai sa v tl) H locs) (hdg : decode cc pc = .ok (.getfield 41, 3)) (kk : W p l e R s m args below meth c H locs cells slots Q (F0 m (pc + 3) ls (.ref (sa 7) :: rest))) : W p l e R s m args below meth c H locs cells slots Q (F0 m pc ls (.ref (sa 0) :: rest)) :=
  va_get (D := G) (ci := 2) (C := RX1) (T := TX1) (N := 19) hC.1 hC.2.1 hC.2.2.2.2.1 in_X1 hC.2.2.2.1 hC.2.2.2.2.2.2.1 hI.1 0 rfl rfl 7 (by decide) (hC.2.2.2.2.1 _ q316) (fun _ h9 => h9) rfl hdg kk
theorem st_l_moles {own : String} {p : Program} {l : Launch} {e : Env} {R : Room} {s : State} {m : MethodId} {args : Array Value} {below : List Frame} {meth : Method} {c : Code} {H : Heap} {locs : List Loc} {cells slots : Nat} {Q : State → Prop} {pc : Nat} {ls : Array Slot} {rest : List Value} {G : va_G} {ai : Nat → ClassId} {A : Nat → Prop} {cc : ByteArray} {nL f L kc ks : Nat} {sa : Nat → Nat} {tl : va_W} {v : MS} {j : Int32} (hC : mo_C p R s m args meth c G ai A own cc nL f L kc ks) (hI : mo_I G A s.heap (st_W ai sa v tl) H locs) (hg : gi j 3 = true) (hdg : decode cc pc = .ok (.aaload, 1)) (kk : W p l e R s m args below meth c H locs cells slots Q (F0 m (pc + 1) ls (.ref (sa (14 + j.toNatClampNeg)) :: rest))) : W p l e R s m args below meth c H locs cells slots Q (F0 m pc ls (.int j :: .ref (sa 7) :: rest)) :=
  va_aldq hC.1 hC.2.1 hC.2.2.2.2.2.2.1 hI.1 6 5 rfl rfl (gi_in hg) hdg kk
theorem st_X1_g_st_gardenerMany {p : Program} {l : Launch} {e : Env} {R : Room} {s s0 : State} {b0 : Addr} {m : MethodId} {args : Array Value} {below : List Frame} {meth : Method} {c : Code} {H : Heap} {locs : List Loc} {cells slots : Nat} {Q : State → Prop} {pc : Nat} {ls : Array Slot} {rest : List Value} {G : va_G} {ai : Nat → ClassId} {A : Nat → Prop} {cc : ByteArray} {nL f L kc ks : Nat} {sa : Nat → Nat} {tl : va_W} {v : MS} (hC : mo_C p R s m args meth c G ai A RX1 cc nL f L kc ks) (h0 : mo_S0 s0 b0) (hZ : mo_Z s0 A s) (hI : mo_I G A s.heap (st_W ai sa v tl) H locs) (hdg : decode cc pc = .ok (.getfield 63, 3)) (kk : W p l e R s m args below meth c H locs cells slots Q (F0 m (pc + 3) ls (.int (v 0 6) :: rest))) : W p l e R s m args below meth c H locs cells slots Q (F0 m pc ls (.ref (sa 0) :: rest)) :=
  va_get (D := G) (ci := 2) (C := RX1) (T := TX1) (N := 19) hC.1 hC.2.1 hC.2.2.2.2.1 in_X1 hC.2.2.2.1 hC.2.2.2.2.2.2.1 hI.1 0 rfl rfl 6 (by decide) (hC.2.2.2.2.1 _ q314) (fun _ h9 => h9) rfl hdg kk
theorem st_X1_g_st_gardeners {p : Program} {l : Launch} {e : Env} {R : Room} {s s0 : State} {b0 : Addr} {m : MethodId} {args : Array Value} {below : List Frame} {meth : Method} {c : Code} {H : Heap} {locs : List Loc} {cells slots : Nat} {Q : State → Prop} {pc : Nat} {ls : Array Slot} {rest : List Value} {G : va_G} {ai : Nat → ClassId} {A : Nat → Prop} {cc : ByteArray} {nL f L kc ks : Nat} {sa : Nat → Nat} {tl : va_W} {v : MS} (hC : mo_C p R s m args meth c G ai A RX1 cc nL f L kc ks) (h0 : mo_S0 s0 b0) (hZ : mo_Z s0 A s) (hI : mo_I G A s.heap (st_W ai sa v tl) H locs) (hdg : decode cc pc = .ok (.getfield 35, 3)) (kk : W p l e R s m args below meth c H locs cells slots Q (F0 m (pc + 3) ls (.ref (sa 6) :: rest))) : W p l e R s m args below meth c H locs cells slots Q (F0 m pc ls (.ref (sa 0) :: rest)) :=
  va_get (D := G) (ci := 2) (C := RX1) (T := TX1) (N := 19) hC.1 hC.2.1 hC.2.2.2.2.1 in_X1 hC.2.2.2.1 hC.2.2.2.2.2.2.1 hI.1 0 rfl rfl 5 (by decide) (hC.2.2.2.2.1 _ q312) (fun _ h9 => h9) rfl hdg kk
theorem st_l_gards {own : String} {p : Program} {l : Launch} {e : Env} {R : Room} {s : State} {m : MethodId} {args : Array Value} {below : List Frame} {meth : Method} {c : Code} {H : Heap} {locs : List Loc} {cells slots : Nat} {Q : State → Prop} {pc : Nat} {ls : Array Slot} {rest : List Value} {G : va_G} {ai : Nat → ClassId} {A : Nat → Prop} {cc : ByteArray} {nL f L kc ks : Nat} {sa : Nat → Nat} {tl : va_W} {v : MS} {j : Int32} (hC : mo_C p R s m args meth c G ai A own cc nL f L kc ks) (hI : mo_I G A s.heap (st_W ai sa v tl) H locs) (hg : gi j 4 = true) (hdg : decode cc pc = .ok (.aaload, 1)) (kk : W p l e R s m args below meth c H locs cells slots Q (F0 m (pc + 1) ls (.ref (sa (10 + j.toNatClampNeg)) :: rest))) : W p l e R s m args below meth c H locs cells slots Q (F0 m pc ls (.int j :: .ref (sa 6) :: rest)) :=
  va_aldq hC.1 hC.2.1 hC.2.2.2.2.2.2.1 hI.1 5 4 rfl rfl (gi_in hg) hdg kk
theorem st_X1_p_gard_hours {p : Program} {l : Launch} {e : Env} {R : Room} {s s0 : State} {b0 : Addr} {m : MethodId} {args : Array Value} {below : List Frame} {meth : Method} {c : Code} {H : Heap} {locs : List Loc} {cells slots : Nat} {Q : State → Prop} {pc : Nat} {ls : Array Slot} {rest : List Value} {G : va_G} {ai : Nat → ClassId} {A : Nat → Prop} {cc : ByteArray} {nL f L kc ks : Nat} {sa : Nat → Nat} {tl : va_W} {v : MS} {k x : Int32} {z1 : MS} (hC : mo_C p R s m args meth c G ai A RX1 cc nL f L kc ks) (h0 : mo_S0 s0 b0) (hZ : mo_Z s0 A s) (hI : mo_I G A s.heap (st_W ai sa v tl) H locs) (hj : gi k 4 = true) (hM : z1 = rup v (6 + k.toNatClampNeg) (upd (v (6 + k.toNatClampNeg)) 1 x)) (hdg : decode cc pc = .ok (.putfield 177, 3)) (kk : ∀ (H1 : Heap) (locs1 : List Loc), mo_I G A s.heap (st_W ai sa z1 tl) H1 locs1 → W p l e R s m args below meth c H1 locs1 cells slots Q (F0 m (pc + 3) ls (rest))) : W p l e R s m args below meth c H locs cells slots Q (F0 m pc ls (.int x :: .ref (sa (10 + k.toNatClampNeg)) :: rest)) := by
  subst z1
  obtain ⟨j, hj1, -, hc⟩ := gi_nI (by decide) hj
  rw [hc] at kk ⊢
  refine va_putN (D := G) (ci := 3) (v := .int x) (ty := .int) (C := RX2) (T := TX2) (N := 5) hC.1 hC.2.1 hC.2.2.2.2.1 in_X2 tyX2 tyX2_ok nmX2 hC.2.2.2.1 hC.2.2.2.2.2.2.1 hI.1 hI.2.1 hI.2.2 (7 + j) (st_hg j hj1) rfl 1 (by decide) (mo_nF h0 hZ q250) (fun _ h9 => h9) rfl (by decide +kernel) rfl rfl (Nat.le_of_ble_eq_true rfl) hdg (fun H locs hP hD hS => ?_)
  rw [st_sg (by decide) j hj1] at hP hD
  exact kk H locs ⟨hP, hD, hS⟩
theorem st_X1_g_st_strokes {p : Program} {l : Launch} {e : Env} {R : Room} {s s0 : State} {b0 : Addr} {m : MethodId} {args : Array Value} {below : List Frame} {meth : Method} {c : Code} {H : Heap} {locs : List Loc} {cells slots : Nat} {Q : State → Prop} {pc : Nat} {ls : Array Slot} {rest : List Value} {G : va_G} {ai : Nat → ClassId} {A : Nat → Prop} {cc : ByteArray} {nL f L kc ks : Nat} {sa : Nat → Nat} {tl : va_W} {v : MS} (hC : mo_C p R s m args meth c G ai A RX1 cc nL f L kc ks) (h0 : mo_S0 s0 b0) (hZ : mo_Z s0 A s) (hI : mo_I G A s.heap (st_W ai sa v tl) H locs) (hdg : decode cc pc = .ok (.getfield 92, 3)) (kk : W p l e R s m args below meth c H locs cells slots Q (F0 m (pc + 3) ls (.int (v 0 18) :: rest))) : W p l e R s m args below meth c H locs cells slots Q (F0 m pc ls (.ref (sa 0) :: rest)) :=
  va_get (D := G) (ci := 2) (C := RX1) (T := TX1) (N := 19) hC.1 hC.2.1 hC.2.2.2.2.1 in_X1 hC.2.2.2.1 hC.2.2.2.2.2.2.1 hI.1 0 rfl rfl 18 (by decide) (hC.2.2.2.2.1 _ q338) (fun _ h9 => h9) rfl hdg kk
theorem st_X1_p_st_strokes {p : Program} {l : Launch} {e : Env} {R : Room} {s s0 : State} {b0 : Addr} {m : MethodId} {args : Array Value} {below : List Frame} {meth : Method} {c : Code} {H : Heap} {locs : List Loc} {cells slots : Nat} {Q : State → Prop} {pc : Nat} {ls : Array Slot} {rest : List Value} {G : va_G} {ai : Nat → ClassId} {A : Nat → Prop} {cc : ByteArray} {nL f L kc ks : Nat} {sa : Nat → Nat} {tl : va_W} {v : MS} {x : Int32} {z1 : MS} (hC : mo_C p R s m args meth c G ai A RX1 cc nL f L kc ks) (h0 : mo_S0 s0 b0) (hZ : mo_Z s0 A s) (hI : mo_I G A s.heap (st_W ai sa v tl) H locs) (hM : z1 = rup v 0 (upd (v 0) 18 x)) (hdg : decode cc pc = .ok (.putfield 92, 3)) (kk : ∀ (H1 : Heap) (locs1 : List Loc), mo_I G A s.heap (st_W ai sa z1 tl) H1 locs1 → W p l e R s m args below meth c H1 locs1 cells slots Q (F0 m (pc + 3) ls (rest))) : W p l e R s m args below meth c H locs cells slots Q (F0 m pc ls (.int x :: .ref (sa 0) :: rest)) := by
  subst z1
  exact va_put (D := G) (ci := 2) (v := .int x) (ty := .int) (C := RX1) (T := TX1) (N := 19) hC.1 hC.2.1 hC.2.2.2.2.1 in_X1 tyX1 tyX1_ok nmX1 hC.2.2.2.1 hC.2.2.2.2.2.2.1 hI.1 hI.2.1 hI.2.2 0 rfl rfl 18 (by decide) (hC.2.2.2.2.1 _ q338) (fun _ h9 => h9) rfl (by decide +kernel) rfl rfl (Nat.le_of_ble_eq_true rfl) hdg (fun H locs hP hD hS => kk H locs ⟨hP, hD, hS⟩)
theorem st_X1_g_st_day {p : Program} {l : Launch} {e : Env} {R : Room} {s s0 : State} {b0 : Addr} {m : MethodId} {args : Array Value} {below : List Frame} {meth : Method} {c : Code} {H : Heap} {locs : List Loc} {cells slots : Nat} {Q : State → Prop} {pc : Nat} {ls : Array Slot} {rest : List Value} {G : va_G} {ai : Nat → ClassId} {A : Nat → Prop} {cc : ByteArray} {nL f L kc ks : Nat} {sa : Nat → Nat} {tl : va_W} {v : MS} (hC : mo_C p R s m args meth c G ai A RX1 cc nL f L kc ks) (h0 : mo_S0 s0 b0) (hZ : mo_Z s0 A s) (hI : mo_I G A s.heap (st_W ai sa v tl) H locs) (hdg : decode cc pc = .ok (.getfield 77, 3)) (kk : W p l e R s m args below meth c H locs cells slots Q (F0 m (pc + 3) ls (.int (v 0 13) :: rest))) : W p l e R s m args below meth c H locs cells slots Q (F0 m pc ls (.ref (sa 0) :: rest)) :=
  va_get (D := G) (ci := 2) (C := RX1) (T := TX1) (N := 19) hC.1 hC.2.1 hC.2.2.2.2.1 in_X1 hC.2.2.2.1 hC.2.2.2.2.2.2.1 hI.1 0 rfl rfl 13 (by decide) (hC.2.2.2.2.1 _ q328) (fun _ h9 => h9) rfl hdg kk
theorem st_X1_p_st_day {p : Program} {l : Launch} {e : Env} {R : Room} {s s0 : State} {b0 : Addr} {m : MethodId} {args : Array Value} {below : List Frame} {meth : Method} {c : Code} {H : Heap} {locs : List Loc} {cells slots : Nat} {Q : State → Prop} {pc : Nat} {ls : Array Slot} {rest : List Value} {G : va_G} {ai : Nat → ClassId} {A : Nat → Prop} {cc : ByteArray} {nL f L kc ks : Nat} {sa : Nat → Nat} {tl : va_W} {v : MS} {x : Int32} {z1 : MS} (hC : mo_C p R s m args meth c G ai A RX1 cc nL f L kc ks) (h0 : mo_S0 s0 b0) (hZ : mo_Z s0 A s) (hI : mo_I G A s.heap (st_W ai sa v tl) H locs) (hM : z1 = rup v 0 (upd (v 0) 13 x)) (hdg : decode cc pc = .ok (.putfield 77, 3)) (kk : ∀ (H1 : Heap) (locs1 : List Loc), mo_I G A s.heap (st_W ai sa z1 tl) H1 locs1 → W p l e R s m args below meth c H1 locs1 cells slots Q (F0 m (pc + 3) ls (rest))) : W p l e R s m args below meth c H locs cells slots Q (F0 m pc ls (.int x :: .ref (sa 0) :: rest)) := by
  subst z1
  exact va_put (D := G) (ci := 2) (v := .int x) (ty := .int) (C := RX1) (T := TX1) (N := 19) hC.1 hC.2.1 hC.2.2.2.2.1 in_X1 tyX1 tyX1_ok nmX1 hC.2.2.2.1 hC.2.2.2.2.2.2.1 hI.1 hI.2.1 hI.2.2 0 rfl rfl 13 (by decide) (hC.2.2.2.2.1 _ q328) (fun _ h9 => h9) rfl (by decide +kernel) rfl rfl (Nat.le_of_ble_eq_true rfl) hdg (fun H locs hP hD hS => kk H locs ⟨hP, hD, hS⟩)
def f_st_goal_L4 (x_v : MS) (a1 : Int32) (kont : Int32 → Option Int32) : Nat → Int32 → Int32 → Option Int32
  | 0, _, _ => none
  | n + 1, x3, x2 => if 4 ≤ x3 then (kont x2) else (ov (f_nw_charAt x3) (fun r3 => ov (f_Side_of r3) (fun r5 => if r5 = -1 then none else gd (gi r5 4) (lt ((p_sd r5 a1)) (fun x4_9 => lj (fun (t10 : Int32) => lj (fun (t12 : Int32) => lt (x3 + 1) (fun x3_14 => f_st_goal_L4 x_v a1 kont n x3_14 t12)) (fun j101_12 => lj (j101_12 x2) (fun j100_14 => if t10 = 0 then j100_14 else (lj (j101_12 x4_9) (fun j95_16 => if x2 < 0 then j95_16 else (gd (gi x4_9 30) (gd (gi x2 30) (if (x_v 2 x2.toNatClampNeg) < (x_v 2 x4_9.toNatClampNeg) then j95_16 else (gd (gi x4_9 30) (gd (gi x2 30) (if (x_v 2 x4_9.toNatClampNeg) = (x_v 2 x2.toNatClampNeg) then (if x2 ≤ x4_9 then j100_14 else j95_16) else j100_14))))))))))) (fun j46_10 => lj (j46_10 0) (fun j45_25 => if x4_9 < 0 then j45_25 else (ov (bs_get (x_v 4) x4_9) (fun r28 => if r28 = 0 then (j46_10 1) else j45_25)))))))))
def f_st_goal (v : MS) (a1 : Int32) : Option Int32 := lt ((-1)) (fun x2_1 => f_st_goal_L4 v a1 (fun x2_31 => some x2_31) 6 0 x2_1)
set_option maxHeartbeats 4000000 in
theorem w_st_goal_L4 {p : Program} {l : Launch} {e : Env} {R : Room} {s s0 : State} {b0 : Addr} {m : MethodId} {args : Array Value} {below : List Frame} {meth : Method} {c : Code} {G : va_G} {ai : Nat → ClassId} {A : Nat → Prop} {sa : Nat → Nat} {tl : va_W} {x_v : MS} {r0 : Int32} (hC : mo_C p R s m args meth c G ai A RX1 cX1_goal 6 4 85 0 0) (h0 : mo_S0 s0 b0) (hZ : mo_Z s0 A s) (hr : meth.sig.returnType = (some .int)) (hI0 : mo_I G A s.heap (st_W ai sa x_v tl) s.heap []) (a1 : Int32) (kont : Int32 → Option Int32) (K : ∀ (x2 : Int32) (ls : Array Slot), kont x2 = some r0 → lv_has ls 6 [(2, .int x2)] → W p l e R s m args below meth c s.heap [] 0 0 (MQ below (rd_Q (.int r0)) args s 0 0 (fun _ => False)) (F0 m 108 ls [])) :
    ∀ (n : Nat) (x3 : Int32) (x2 : Int32) (ls : Array Slot), f_st_goal_L4 x_v a1 kont n x3 x2 = some r0 → lv_has ls 6 [(3, .int x3), (2, .int x2), (0, .ref (sa 0)), (1, .int a1)] → W p l e R s m args below meth c s.heap [] 0 0 (MQ below (rd_Q (.int r0)) args s 0 0 (fun _ => False)) (F0 m 4 ls []) := by
  have hx := hC.1
  have hb := hC.2.1
  have hI := hI0
  intro n
  induction n with
  | zero =>
    intro x3 x2 ls hF
    have h0 : (none : Option Int32) = some r0 := hF
    cases h0
  | succ n ih =>
    intro x3 x2 ls hF hl
    rw [f_st_goal_L4] at hF
    refine lv_iload_n hx hb dX1_goal_4 rfl (lv_at hl 0 rfl) ?_
    refine lv_iconst (v := 4) hx hb dX1_goal_5 (by decide) ?_
    refine lv_icmp_ge (tgt := 108) hx hb dX1_goal_6 (by decide) (fun c2 => ?_) (fun c2 => ?_)
    · have hF := if_t hF c2
      exact K _ _ hF (lv_sub hl [1] rfl)
    · have hF := if_f hF c2
      refine va_ldcS hx hb hC.2.2.2.1 (nw_R h0 hZ) dX1_goal_9 ?_
      refine lv_iload_n hx hb dX1_goal_11 rfl (lv_at hl 0 rfl) ?_
      obtain ⟨r3, hz4, hF⟩ := ov_some hF
      refine k_X1_nw_charAt hC h0 hZ hI hz4 (Nat.le_of_ble_eq_true rfl) (Nat.le_of_ble_eq_true rfl) hl.1 (Nat.le_of_ble_eq_true rfl) dX1_goal_12 ?_
      obtain ⟨r5, hz6, hF⟩ := ov_some hF
      refine k_X1_Side_of hC h0 hZ hI hz6 (Nat.le_of_ble_eq_true rfl) (Nat.le_of_ble_eq_true rfl) hl.1 (Nat.le_of_ble_eq_true rfl) dX1_goal_15 ?_
      by_cases c7 : r5 = -1
      · have hF := if_t hF c7
        rw [sd_null c7]
        refine lv_iload_n hx hb dX1_goal_18 rfl (lv_at hl 3 rfl) ?_
        cases hF
      have hF := if_f hF c7
      obtain ⟨hg8, hF⟩ := gd_some hF
      rw [sd_ref hg8]
      refine lv_iload_n hx hb dX1_goal_18 rfl (lv_at hl 3 rfl) ?_
      refine k_X1_from hC h0 hZ hI hg8 (Nat.le_of_ble_eq_true rfl) (Nat.le_of_ble_eq_true rfl) hl.1 (Nat.le_of_ble_eq_true rfl) dX1_goal_19 ?_
      obtain ⟨x4_9, hx4_9, hF⟩ := lt_some hF
      refine mo_ist4 (lv' := [(4, .int x4_9), (3, .int x3), (2, .int x2), (0, .ref (sa 0)), (1, .int a1)]) hx hb hx4_9 dX1_goal_22 hl (by decide) rfl (fun ls hl => ?_)
      refine lv_iload hx hb dX1_goal_24 (lv_at hl 0 rfl) ?_
      obtain ⟨j46_10, hj46_10, hF⟩ := lj_some hF
      have J46 : ∀ (t10 : Int32) (ls : Array Slot), j46_10 t10 = some r0 → lv_has ls 6 [(4, .int x4_9), (3, .int x3), (2, .int x2), (0, .ref (sa 0)), (1, .int a1)] → W p l e R s m args below meth c s.heap [] 0 0 (MQ below (rd_Q (.int r0)) args s 0 0 (fun _ => False)) (F0 m 46 ls [.int t10]) := by
        intro t10 ls hF hl
        rw [hj46_10] at hF
        refine mo_ist4 (lv' := [(5, .int t10), (4, .int x4_9), (3, .int x3), (2, .int x2), (0, .ref (sa 0)), (1, .int a1)]) hx hb rfl dX1_goal_46 hl (by decide) rfl (fun ls hl => ?_)
        refine lv_iload hx hb dX1_goal_48 (lv_at hl 0 rfl) ?_
        obtain ⟨j101_12, hj101_12, hF⟩ := lj_some hF
        have J101 : ∀ (t12 : Int32) (ls : Array Slot), j101_12 t12 = some r0 → lv_has ls 6 [(3, .int x3), (0, .ref (sa 0)), (1, .int a1)] → W p l e R s m args below meth c s.heap [] 0 0 (MQ below (rd_Q (.int r0)) args s 0 0 (fun _ => False)) (F0 m 101 ls [.int t12]) := by
          intro t12 ls hF hl
          rw [hj101_12] at hF
          refine mo_ist (lv' := [(2, .int t12), (3, .int x3), (0, .ref (sa 0)), (1, .int a1)]) hx hb rfl dX1_goal_101 rfl hl (by decide) rfl (fun ls hl => ?_)
          obtain ⟨x3_14, hx3_14, hF⟩ := lt_some hF
          refine mo_inc (k := 1) (lv' := [(3, .int x3_14), (2, .int t12), (0, .ref (sa 0)), (1, .int a1)]) hx hb hx3_14 (by decide) dX1_goal_102 hl rfl (by decide) rfl (fun ls hl => ?_)
          refine lv_goto (tgt := 4) hx hb dX1_goal_105 (by decide) ?_
          exact ih _ _ _ hF (lv_sub hl [0, 1, 2, 3] rfl)
        obtain ⟨j100_14, hj100_14, hF⟩ := lj_some hF
        have J100 : ∀ (ls : Array Slot), j100_14 = some r0 → lv_has ls 6 [(3, .int x3), (2, .int x2), (0, .ref (sa 0)), (1, .int a1)] → W p l e R s m args below meth c s.heap [] 0 0 (MQ below (rd_Q (.int r0)) args s 0 0 (fun _ => False)) (F0 m 100 ls []) := by
          intro ls hF hl
          rw [hj100_14] at hF
          refine lv_iload_n hx hb dX1_goal_100 rfl (lv_at hl 1 rfl) ?_
          exact J101 _ _ hF (lv_sub hl [0, 2, 3] rfl)
        refine lv_if_eq (tgt := 100) hx hb dX1_goal_50 (by decide) (fun c16 => ?_) (fun c16 => ?_)
        · have hF := if_t hF c16
          exact J100 _ hF (lv_sub hl [2, 3, 4, 5] rfl)
        · have hF := if_f hF c16
          refine lv_iload_n hx hb dX1_goal_53 rfl (lv_at hl 3 rfl) ?_
          obtain ⟨j95_16, hj95_16, hF⟩ := lj_some hF
          have J95 : ∀ (ls : Array Slot), j95_16 = some r0 → lv_has ls 6 [(4, .int x4_9), (3, .int x3), (0, .ref (sa 0)), (1, .int a1)] → W p l e R s m args below meth c s.heap [] 0 0 (MQ below (rd_Q (.int r0)) args s 0 0 (fun _ => False)) (F0 m 95 ls []) := by
            intro ls hF hl
            rw [hj95_16] at hF
            refine lv_iload hx hb dX1_goal_95 (lv_at hl 0 rfl) ?_
            refine lv_goto (tgt := 101) hx hb dX1_goal_97 (by decide) ?_
            exact J101 _ _ hF (lv_sub hl [1, 2, 3] rfl)
          refine lv_if_lt (tgt := 95) hx hb dX1_goal_54 (by decide) (fun c18 => ?_) (fun c18 => ?_)
          · have hF := if_t hF c18
            exact J95 _ hF (lv_sub hl [1, 2, 4, 5] rfl)
          · have hF := if_f hF c18
            refine lv_aload_n hx hb dX1_goal_57 rfl (lv_at hl 4 rfl) ?_
            refine st_X1_g_st_moss hC h0 hZ hI dX1_goal_58 ?_
            refine lv_iload hx hb dX1_goal_61 (lv_at hl 1 rfl) ?_
            obtain ⟨hg19, hF⟩ := gd_some hF
            refine st_l_moss hC hI hg19 dX1_goal_63 ?_
            refine lv_aload_n hx hb dX1_goal_64 rfl (lv_at hl 4 rfl) ?_
            refine st_X1_g_st_moss hC h0 hZ hI dX1_goal_65 ?_
            refine lv_iload_n hx hb dX1_goal_68 rfl (lv_at hl 3 rfl) ?_
            obtain ⟨hg20, hF⟩ := gd_some hF
            refine st_l_moss hC hI hg20 dX1_goal_69 ?_
            refine lv_icmp_gt (tgt := 95) hx hb dX1_goal_70 (by decide) (fun c21 => ?_) (fun c21 => ?_)
            · have hF := if_t hF c21
              exact J95 _ hF (lv_sub hl [1, 2, 4, 5] rfl)
            · have hF := if_f hF c21
              refine lv_aload_n hx hb dX1_goal_73 rfl (lv_at hl 4 rfl) ?_
              refine st_X1_g_st_moss hC h0 hZ hI dX1_goal_74 ?_
              refine lv_iload hx hb dX1_goal_77 (lv_at hl 1 rfl) ?_
              obtain ⟨hg22, hF⟩ := gd_some hF
              refine st_l_moss hC hI hg22 dX1_goal_79 ?_
              refine lv_aload_n hx hb dX1_goal_80 rfl (lv_at hl 4 rfl) ?_
              refine st_X1_g_st_moss hC h0 hZ hI dX1_goal_81 ?_
              refine lv_iload_n hx hb dX1_goal_84 rfl (lv_at hl 3 rfl) ?_
              obtain ⟨hg23, hF⟩ := gd_some hF
              refine st_l_moss hC hI hg23 dX1_goal_85 ?_
              refine lv_icmp_ne (tgt := 100) hx hb dX1_goal_86 (by decide) (fun c24 => ?_) (fun c24 => ?_)
              · have hF := if_f hF c24
                exact J100 _ hF (lv_sub hl [2, 3, 4, 5] rfl)
              · have hF := if_t hF c24
                refine lv_iload hx hb dX1_goal_89 (lv_at hl 1 rfl) ?_
                refine lv_iload_n hx hb dX1_goal_91 rfl (lv_at hl 3 rfl) ?_
                refine lv_icmp_ge (tgt := 100) hx hb dX1_goal_92 (by decide) (fun c25 => ?_) (fun c25 => ?_)
                · have hF := if_t hF c25
                  exact J100 _ hF (lv_sub hl [2, 3, 4, 5] rfl)
                · have hF := if_f hF c25
                  exact J95 _ hF (lv_sub hl [1, 2, 4, 5] rfl)
      obtain ⟨j45_25, hj45_25, hF⟩ := lj_some hF
      have J45 : ∀ (ls : Array Slot), j45_25 = some r0 → lv_has ls 6 [(4, .int x4_9), (3, .int x3), (2, .int x2), (0, .ref (sa 0)), (1, .int a1)] → W p l e R s m args below meth c s.heap [] 0 0 (MQ below (rd_Q (.int r0)) args s 0 0 (fun _ => False)) (F0 m 45 ls []) := by
        intro ls hF hl
        rw [hj45_25] at hF
        refine lv_iconst (v := 0) hx hb dX1_goal_45 (by decide) ?_
        exact J46 _ _ hF (lv_sub hl [0, 1, 2, 3, 4] rfl)
      refine lv_if_lt (tgt := 45) hx hb dX1_goal_26 (by decide) (fun c27 => ?_) (fun c27 => ?_)
      · have hF := if_t hF c27
        exact J45 _ hF (lv_sub hl [0, 1, 2, 3, 4] rfl)
      · have hF := if_f hF c27
        refine lv_aload_n hx hb dX1_goal_29 rfl (lv_at hl 3 rfl) ?_
        refine st_X1_g_st_stones hC h0 hZ hI dX1_goal_30 ?_
        refine lv_iload hx hb dX1_goal_33 (lv_at hl 0 rfl) ?_
        obtain ⟨r28, hz29, hF⟩ := ov_some hF
        refine st_X1_stones_get hC h0 hZ hI hz29 (Nat.le_of_ble_eq_true rfl) (Nat.le_of_ble_eq_true rfl) hl.1 (Nat.le_of_ble_eq_true rfl) dX1_goal_35 ?_
        refine lv_if_ne (tgt := 45) hx hb dX1_goal_38 (by decide) (fun c30 => ?_) (fun c30 => ?_)
        · have hF := if_f hF c30
          exact J45 _ hF (lv_sub hl [0, 1, 2, 3, 4] rfl)
        · have hF := if_t hF c30
          refine lv_iconst (v := 1) hx hb dX1_goal_41 (by decide) ?_
          refine lv_goto (tgt := 46) hx hb dX1_goal_42 (by decide) ?_
          exact J46 _ _ hF (lv_sub hl [0, 1, 2, 3, 4] rfl)
set_option maxHeartbeats 4000000 in
theorem w_st_goal (l : Launch) (G : va_G) (ai : Nat → ClassId) {s0 : State} {b0 : Addr} (h0 : mo_S0 s0 b0) {sa : Nat → Nat} {tl : va_W} (v : MS) (a1 : Int32) (r0 : Int32) (hF : f_st_goal v a1 = some r0) : rd_Met l G ai s0 yX1_goal cX1_goal 6 (some .int) ({ frames := 4, cells := 0, slots := 0, locals := 85 } : Room) [.ref (sa 0), .int a1] (st_W ai sa v tl) (.int r0) := by
  refine gz_body (Qc := fun _ => rd_Q (.int r0)) (fr := fun _ _ => False) (by decide) (Nat.le_of_ble_eq_true rfl) ?_
  intro p e s m args below meth c A ls hC hZ hr hI hl hnm
  have hx := hC.1
  have hb := hC.2.1
  have hl : lv_has ls 6 [(0, .ref (sa 0)), (1, .int a1)] := hl
  show W p l e _ s m args below meth c s.heap [] 0 0 (MQ below (rd_Q (.int r0)) args s 0 0 (fun _ => False)) (F0 m 0 ls [])
  rw [f_st_goal] at hF
  refine lv_iconst (v := (-1)) hx hb dX1_goal_0 (by decide) ?_
  obtain ⟨x2_1, hx2_1, hF⟩ := lt_some hF
  refine mo_ist (lv' := [(2, .int x2_1), (0, .ref (sa 0)), (1, .int a1)]) hx hb hx2_1 dX1_goal_1 rfl hl (by decide) rfl (fun ls hl => ?_)
  refine lv_iconst (v := 0) hx hb dX1_goal_2 (by decide) ?_
  refine mo_ist (lv' := [(3, .int 0), (2, .int x2_1), (0, .ref (sa 0)), (1, .int a1)]) hx hb rfl dX1_goal_3 rfl hl (by decide) rfl (fun ls hl => ?_)
  refine w_st_goal_L4 hC h0 hZ hr hI a1 _ (fun x2_31 ls hF hl => ?_) 6 _ _ _ hF (lv_sub hl [0, 1, 2, 3] rfl)
  refine lv_iload_n hx hb dX1_goal_108 rfl (lv_at hl 0 rfl) ?_
  have hF := Option.some.inj hF
  subst hF
  exact rd_iret hC hr rfl dX1_goal_109
theorem k_X1_st_goal {p : Program} {l : Launch} {e : Env} {R : Room} {s s0 : State} {b0 : Addr} {m : MethodId} {args : Array Value} {below : List Frame} {meth : Method} {c : Code} {H : Heap} {locs : List Loc} {cells slots : Nat} {Q : State → Prop} {pc : Nat} {ls : Array Slot} {rest : List Value} {G : va_G} {ai : Nat → ClassId} {A : Nat → Prop} {cc : ByteArray} {nL f L kc ks : Nat} {sa : Nat → Nat} {tl : va_W} {v : MS} {a1 : Int32}  {r1 : Int32} (hC : mo_C p R s m args meth c G ai A RX1 cc nL f L kc ks) (h0 : mo_S0 s0 b0) (hZ : mo_Z s0 A s) (hI : mo_I G A s.heap (st_W ai sa v tl) H locs) (hz : f_st_goal v a1 = some r1) (hf : 4 + 1 ≤ f) (hL : 8 + (6 + 11) + 85 ≤ L) (hsz : ls.size = nL) (hW : (rest.map fun v => v.category).sum ≤ 8) (hdg : decode cc pc = .ok (.invokevirtual 165, 3)) (kk : W p l e R s m args below meth c H locs cells slots Q (F0 m (pc + 3) ls (.int r1 :: rest))) (hc0 : cells ≤ kc := by first | exact Nat.zero_le _ | exact Nat.le_of_ble_eq_true rfl | assumption | omega) (hs0 : slots ≤ ks := by first | exact Nat.zero_le _ | exact Nat.le_of_ble_eq_true rfl | assumption | omega) : W p l e R s m args below meth c H locs cells slots Q (F0 m pc ls (.int a1 :: .ref (sa 0) :: rest)) :=
  rd_use (va_runV (As := [.int a1]) (rest := rest) ⟨hC.1, hC.2.1, hC.2.2.1, hC.2.2.2.1, hC.2.2.2.2.1⟩ (w_st_goal l G ai h0 v a1 r1 hz H.size) (cwV 1 hC.2.2.2.2.1 (lw_V q1077 q1079 qs29 q116 q1080) rfl rfl rfl (by decide +kernel) ⟨Nat.le_trans hf hC.2.2.2.2.2.2.2.2.1, Nat.le_trans hL hC.2.2.2.2.2.2.2.2.2.1⟩) ⟨gz_blind, (va_recv hC.2.2.2.2.2.2.1 hI.1 (ci := 2) (q0 := 0) rfl rfl), gz_pre0 hC hZ hI⟩ rfl rfl hsz rfl (lv_room hW) hdg ⟨Nat.le_trans hc0 hC.2.2.2.2.2.2.2.2.2.2.1, Nat.le_trans hs0 hC.2.2.2.2.2.2.2.2.2.2.2⟩) kk
def f_st_digs (v : MS) (k : Int32) : Option ((Int32 × MS)) := gd (gi k 3) (if (v (10 + k.toNatClampNeg) 1) = 0 then (gd (gi (v (10 + k.toNatClampNeg) 0) 30) (gd (gi (v (10 + k.toNatClampNeg) 0) 30) (lt (((v 2 (v (10 + k.toNatClampNeg) 0).toNatClampNeg) - ((v 2 (v (10 + k.toNatClampNeg) 0).toNatClampNeg) / 2))) (fun x2_4 => lt (rup v (10 + k.toNatClampNeg) (upd (v (10 + k.toNatClampNeg)) 2 ((v (10 + k.toNatClampNeg) 2) + x2_4))) (fun v5 => ob (f_st_loses v5 (v5 (10 + k.toNatClampNeg) 0) x2_4) (fun r6 u7 => ov (f_st_goal u7 (u7 (10 + k.toNatClampNeg) 0)) (fun r9 => lj (fun (v11 : MS) (t12 : Int32) => lt (rup v11 (10 + k.toNatClampNeg) (upd (v11 (10 + k.toNatClampNeg)) 0 t12)) (fun v14 => lj (fun (v15 : MS) (t16 : Int32) => gd (gb t16) (lt (rup v15 (10 + k.toNatClampNeg) (upd (v15 (10 + k.toNatClampNeg)) 1 t16)) (fun v19 => lj (fun (v20 : MS) => if (v20 (10 + k.toNatClampNeg) 1) = 0 then (some (0, v20)) else (some (1, v20))) (fun j114_20 => if (v19 (10 + k.toNatClampNeg) 1) = 0 then (j114_20 v19) else (gd (gi r9 30) (lt (rup v19 5 (upd (v19 5) r9.toNatClampNeg 0)) (fun v25 => j114_20 v25))))))) (fun j96_16 => lj (fun (v26 : MS) => j96_16 v26 0) (fun j95_26 => if r9 < 0 then (j95_26 v14) else (ov (bs_get (v14 5) r9) (fun r29 => if r29 = 0 then (j95_26 v14) else (j96_16 v14 1))))))) (fun j72_12 => if 0 ≤ r9 then (j72_12 u7 r9) else (j72_12 u7 (u7 (10 + k.toNatClampNeg) 0)))))))))) else (some (0, v)))
set_option maxHeartbeats 4000000 in
theorem w_st_digs (l : Launch) (G : va_G) (ai : Nat → ClassId) {s0 : State} {b0 : Addr} (h0 : mo_S0 s0 b0) {sa : Nat → Nat} {tl : va_W} (v : MS) (k : Int32) (r0 : Int32) (u0 : MS) (hF : f_st_digs v k = some (r0, u0)) : gz_Mi l G ai s0 (fun v => (st_W ai sa v tl)) yX1_digs cX1_digs 4 (some .int) ({ frames := 5, cells := 0, slots := 0, locals := 110 } : Room) [.ref (sa 0), .ref (sa (14 + k.toNatClampNeg))] (st_W ai sa v tl) (fun (r : Int32) (u : MS) => r = r0 ∧ u = u0) 0 0 := by
  refine gz_body (Qc := fun A => va_Qi (fun (r : Int32) (u : MS) => r = r0 ∧ u = u0) (gw_E G ai (fun v => (st_W ai sa v tl)) A) A) (fr := fun A => A) (by decide) (Nat.le_of_ble_eq_true rfl) ?_
  intro p e s m args below meth c A ls hC hZ hr hI hl hnm
  have hx := hC.1
  have hb := hC.2.1
  have hl : lv_has ls 4 [(0, .ref (sa 0)), (1, .ref (sa (14 + k.toNatClampNeg)))] := hl
  show W p l e _ s m args below meth c s.heap [] 0 0 (MQ below (va_Qi (fun (r : Int32) (u : MS) => r = r0 ∧ u = u0) (gw_E G ai (fun v => (st_W ai sa v tl)) A) A) args s 0 0 A) (F0 m 0 ls [])
  rw [f_st_digs] at hF
  obtain ⟨hk1, hF⟩ := gd_some hF
  refine lv_aload_n hx hb dX1_digs_0 rfl (lv_at hl 1 rfl) ?_
  refine st_X1_g_mole_isCaught hC h0 hZ hI hk1 dX1_digs_1 ?_
  refine lv_if_eq (tgt := 9) hx hb dX1_digs_4 (by decide) (fun c1 => ?_) (fun c1 => ?_)
  · have hF := if_t hF c1
    refine lv_aload_n hx hb dX1_digs_9 rfl (lv_at hl 0 rfl) ?_
    refine st_X1_g_st_moss hC h0 hZ hI dX1_digs_10 ?_
    refine lv_aload_n hx hb dX1_digs_13 rfl (lv_at hl 1 rfl) ?_
    refine st_X1_g_mole_square hC h0 hZ hI hk1 dX1_digs_14 ?_
    obtain ⟨hg2, hF⟩ := gd_some hF
    refine st_l_moss hC hI hg2 dX1_digs_17 ?_
    refine lv_aload_n hx hb dX1_digs_18 rfl (lv_at hl 0 rfl) ?_
    refine st_X1_g_st_moss hC h0 hZ hI dX1_digs_19 ?_
    refine lv_aload_n hx hb dX1_digs_22 rfl (lv_at hl 1 rfl) ?_
    refine st_X1_g_mole_square hC h0 hZ hI hk1 dX1_digs_23 ?_
    obtain ⟨hg3, hF⟩ := gd_some hF
    refine st_l_moss hC hI hg3 dX1_digs_26 ?_
    refine lv_iconst (v := 2) hx hb dX1_digs_27 (by decide) ?_
    refine lv_idiv hx hb dX1_digs_28 (by decide) ?_
    refine lv_isub hx hb dX1_digs_29 ?_
    obtain ⟨x2_4, hx2_4, hF⟩ := lt_some hF
    refine mo_ist (lv' := [(2, .int x2_4), (0, .ref (sa 0)), (1, .ref (sa (14 + k.toNatClampNeg)))]) hx hb hx2_4 dX1_digs_30 rfl hl (by decide) rfl (fun ls hl => ?_)
    refine lv_aload_n hx hb dX1_digs_31 rfl (lv_at hl 2 rfl) ?_
    refine lv_dup hx hb dX1_digs_32 rfl ?_
    refine st_X1_g_mole_took hC h0 hZ hI hk1 dX1_digs_33 ?_
    refine lv_iload_n hx hb dX1_digs_36 rfl (lv_at hl 0 rfl) ?_
    refine lv_iadd hx hb dX1_digs_37 ?_
    obtain ⟨v5, hv5, hF⟩ := lt_some hF
    refine st_X1_p_mole_took hC h0 hZ hI hk1 hv5 dX1_digs_38 (fun H locs hI => ?_)
    refine lv_aload_n hx hb dX1_digs_41 rfl (lv_at hl 1 rfl) ?_
    refine lv_aload_n hx hb dX1_digs_42 rfl (lv_at hl 2 rfl) ?_
    refine st_X1_g_mole_square hC h0 hZ hI hk1 dX1_digs_43 ?_
    refine lv_iload_n hx hb dX1_digs_46 rfl (lv_at hl 0 rfl) ?_
    obtain ⟨r6, u7, hz8, hF⟩ := ob_some hF
    refine k_X1_st_loses hC h0 hZ hI hz8 (Nat.le_of_ble_eq_true rfl) (Nat.le_of_ble_eq_true rfl) hl.1 (Nat.le_of_ble_eq_true rfl) dX1_digs_47 (fun H locs hI => ?_)
    refine lv_aload_n hx hb dX1_digs_50 rfl (lv_at hl 1 rfl) ?_
    refine lv_aload_n hx hb dX1_digs_51 rfl (lv_at hl 2 rfl) ?_
    refine st_X1_g_mole_square hC h0 hZ hI hk1 dX1_digs_52 ?_
    obtain ⟨r9, hz10, hF⟩ := ov_some hF
    refine k_X1_st_goal hC h0 hZ hI hz10 (Nat.le_of_ble_eq_true rfl) (Nat.le_of_ble_eq_true rfl) hl.1 (Nat.le_of_ble_eq_true rfl) dX1_digs_55 ?_
    refine mo_ist (lv' := [(3, .int r9), (2, .int x2_4), (0, .ref (sa 0)), (1, .ref (sa (14 + k.toNatClampNeg)))]) hx hb rfl dX1_digs_58 rfl hl (by decide) rfl (fun ls hl => ?_)
    refine lv_aload_n hx hb dX1_digs_59 rfl (lv_at hl 3 rfl) ?_
    refine lv_iload_n hx hb dX1_digs_60 rfl (lv_at hl 0 rfl) ?_
    obtain ⟨j72_12, hj72_12, hF⟩ := lj_some hF
    have J72 : ∀ (v11 : MS) (t12 : Int32) (H : Heap) (locs : List Loc) (ls : Array Slot), j72_12 v11 t12 = some (r0, u0) → mo_I G A s.heap (st_W ai sa v11 tl) H locs → lv_has ls 4 [(3, .int r9), (0, .ref (sa 0)), (1, .ref (sa (14 + k.toNatClampNeg)))] → W p l e ({ frames := 5, cells := 0, slots := 0, locals := 110 } : Room) s m args below meth c H locs 0 0 (MQ below (va_Qi (fun (r : Int32) (u : MS) => r = r0 ∧ u = u0) (gw_E G ai (fun v => (st_W ai sa v tl)) A) A) args s 0 0 A) (F0 m 72 ls [.int t12, .ref (sa (14 + k.toNatClampNeg))]) := by
      intro v11 t12 H locs ls hF hI hl
      rw [hj72_12] at hF
      obtain ⟨v14, hv14, hF⟩ := lt_some hF
      refine st_X1_p_mole_square hC h0 hZ hI hk1 hv14 dX1_digs_72 (fun H locs hI => ?_)
      refine lv_aload_n hx hb dX1_digs_75 rfl (lv_at hl 2 rfl) ?_
      refine lv_iload_n hx hb dX1_digs_76 rfl (lv_at hl 0 rfl) ?_
      obtain ⟨j96_16, hj96_16, hF⟩ := lj_some hF
      have J96 : ∀ (v15 : MS) (t16 : Int32) (H : Heap) (locs : List Loc) (ls : Array Slot), j96_16 v15 t16 = some (r0, u0) → mo_I G A s.heap (st_W ai sa v15 tl) H locs → lv_has ls 4 [(3, .int r9), (0, .ref (sa 0)), (1, .ref (sa (14 + k.toNatClampNeg)))] → W p l e ({ frames := 5, cells := 0, slots := 0, locals := 110 } : Room) s m args below meth c H locs 0 0 (MQ below (va_Qi (fun (r : Int32) (u : MS) => r = r0 ∧ u = u0) (gw_E G ai (fun v => (st_W ai sa v tl)) A) A) args s 0 0 A) (F0 m 96 ls [.int t16, .ref (sa (14 + k.toNatClampNeg))]) := by
        intro v15 t16 H locs ls hF hI hl
        rw [hj96_16] at hF
        obtain ⟨hg18, hF⟩ := gd_some hF
        obtain ⟨v19, hv19, hF⟩ := lt_some hF
        refine st_X1_p_mole_isCaught hC h0 hZ hI hk1 (gb_or hg18) hv19 dX1_digs_96 (fun H locs hI => ?_)
        refine lv_aload_n hx hb dX1_digs_99 rfl (lv_at hl 2 rfl) ?_
        refine st_X1_g_mole_isCaught hC h0 hZ hI hk1 dX1_digs_100 ?_
        obtain ⟨j114_20, hj114_20, hF⟩ := lj_some hF
        have J114 : ∀ (v20 : MS) (H : Heap) (locs : List Loc) (ls : Array Slot), j114_20 v20 = some (r0, u0) → mo_I G A s.heap (st_W ai sa v20 tl) H locs → lv_has ls 4 [(1, .ref (sa (14 + k.toNatClampNeg)))] → W p l e ({ frames := 5, cells := 0, slots := 0, locals := 110 } : Room) s m args below meth c H locs 0 0 (MQ below (va_Qi (fun (r : Int32) (u : MS) => r = r0 ∧ u = u0) (gw_E G ai (fun v => (st_W ai sa v tl)) A) A) args s 0 0 A) (F0 m 114 ls []) := by
          intro v20 H locs ls hF hI hl
          rw [hj114_20] at hF
          refine lv_aload_n hx hb dX1_digs_114 rfl (lv_at hl 0 rfl) ?_
          refine st_X1_g_mole_isCaught hC h0 hZ hI hk1 dX1_digs_115 ?_
          refine lv_if_eq (tgt := 125) hx hb dX1_digs_118 (by decide) (fun c22 => ?_) (fun c22 => ?_)
          · have hF := if_t hF c22
            refine lv_iconst (v := 0) hx hb dX1_digs_125 (by decide) ?_
            cases hF
            exact W.zret hx hb hr rfl (fun t ht hW => ⟨⟨_, _, rfl, ⟨rfl, rfl⟩, by rw [ht]; exact hI.1, va_K.moved hW.alike hC.2.2.2.2.2.2.1, hI.2.1⟩, hI.2.2.F ht⟩) hI.2.2.2.2 dX1_digs_126 hC.2.2.2.2.2.1
          · have hF := if_f hF c22
            refine lv_iconst (v := 1) hx hb dX1_digs_121 (by decide) ?_
            refine lv_goto (tgt := 126) hx hb dX1_digs_122 (by decide) ?_
            cases hF
            exact W.zret hx hb hr rfl (fun t ht hW => ⟨⟨_, _, rfl, ⟨rfl, rfl⟩, by rw [ht]; exact hI.1, va_K.moved hW.alike hC.2.2.2.2.2.2.1, hI.2.1⟩, hI.2.2.F ht⟩) hI.2.2.2.2 dX1_digs_126 hC.2.2.2.2.2.1
        refine lv_if_eq (tgt := 114) hx hb dX1_digs_103 (by decide) (fun c23 => ?_) (fun c23 => ?_)
        · have hF := if_t hF c23
          exact J114 _ _ _ _ hF hI (lv_sub hl [2] rfl)
        · have hF := if_f hF c23
          refine lv_aload_n hx hb dX1_digs_106 rfl (lv_at hl 1 rfl) ?_
          refine st_X1_g_st_traps hC h0 hZ hI dX1_digs_107 ?_
          refine lv_iload_n hx hb dX1_digs_110 rfl (lv_at hl 0 rfl) ?_
          obtain ⟨hg24, hF⟩ := gd_some hF
          obtain ⟨v25, hv25, hF⟩ := lt_some hF
          refine st_X1_traps_clr hC h0 hZ hI hg24 hv25 (Nat.le_of_ble_eq_true rfl) (Nat.le_of_ble_eq_true rfl) hl.1 (Nat.le_of_ble_eq_true rfl) dX1_digs_111 (fun H locs hI => ?_)
          exact J114 _ _ _ _ hF hI (lv_sub hl [2] rfl)
      obtain ⟨j95_26, hj95_26, hF⟩ := lj_some hF
      have J95 : ∀ (v26 : MS) (H : Heap) (locs : List Loc) (ls : Array Slot), j95_26 v26 = some (r0, u0) → mo_I G A s.heap (st_W ai sa v26 tl) H locs → lv_has ls 4 [(3, .int r9), (0, .ref (sa 0)), (1, .ref (sa (14 + k.toNatClampNeg)))] → W p l e ({ frames := 5, cells := 0, slots := 0, locals := 110 } : Room) s m args below meth c H locs 0 0 (MQ below (va_Qi (fun (r : Int32) (u : MS) => r = r0 ∧ u = u0) (gw_E G ai (fun v => (st_W ai sa v tl)) A) A) args s 0 0 A) (F0 m 95 ls [.ref (sa (14 + k.toNatClampNeg))]) := by
        intro v26 H locs ls hF hI hl
        rw [hj95_26] at hF
        refine lv_iconst (v := 0) hx hb dX1_digs_95 (by decide) ?_
        exact J96 _ _ _ _ _ hF hI (lv_sub hl [0, 1, 2] rfl)
      refine lv_if_lt (tgt := 95) hx hb dX1_digs_77 (by decide) (fun c28 => ?_) (fun c28 => ?_)
      · have hF := if_t hF c28
        exact J95 _ _ _ _ hF hI (lv_sub hl [0, 1, 2] rfl)
      · have hF := if_f hF c28
        refine lv_aload_n hx hb dX1_digs_80 rfl (lv_at hl 1 rfl) ?_
        refine st_X1_g_st_traps hC h0 hZ hI dX1_digs_81 ?_
        refine lv_iload_n hx hb dX1_digs_84 rfl (lv_at hl 0 rfl) ?_
        obtain ⟨r29, hz30, hF⟩ := ov_some hF
        refine st_X1_traps_get hC h0 hZ hI hz30 (Nat.le_of_ble_eq_true rfl) (Nat.le_of_ble_eq_true rfl) hl.1 (Nat.le_of_ble_eq_true rfl) dX1_digs_85 ?_
        refine lv_if_eq (tgt := 95) hx hb dX1_digs_88 (by decide) (fun c31 => ?_) (fun c31 => ?_)
        · have hF := if_t hF c31
          exact J95 _ _ _ _ hF hI (lv_sub hl [0, 1, 2] rfl)
        · have hF := if_f hF c31
          refine lv_iconst (v := 1) hx hb dX1_digs_91 (by decide) ?_
          refine lv_goto (tgt := 96) hx hb dX1_digs_92 (by decide) ?_
          exact J96 _ _ _ _ _ hF hI (lv_sub hl [0, 1, 2] rfl)
    refine lv_if_ge (tgt := 71) hx hb dX1_digs_61 (by decide) (fun c32 => ?_) (fun c32 => ?_)
    · have hF := if_t hF c32
      refine lv_iload_n hx hb dX1_digs_71 rfl (lv_at hl 0 rfl) ?_
      exact J72 _ _ _ _ _ hF hI (lv_sub hl [0, 2, 3] rfl)
    · have hF := if_f hF c32
      refine lv_aload_n hx hb dX1_digs_64 rfl (lv_at hl 3 rfl) ?_
      refine st_X1_g_mole_square hC h0 hZ hI hk1 dX1_digs_65 ?_
      refine lv_goto (tgt := 72) hx hb dX1_digs_68 (by decide) ?_
      exact J72 _ _ _ _ _ hF hI (lv_sub hl [0, 2, 3] rfl)
  · have hF := if_f hF c1
    refine lv_iconst (v := 0) hx hb dX1_digs_7 (by decide) ?_
    cases hF
    exact W.zret hx hb hr rfl (fun t ht hW => ⟨⟨_, _, rfl, ⟨rfl, rfl⟩, by rw [ht]; exact hI.1, va_K.moved hW.alike hC.2.2.2.2.2.2.1, hI.2.1⟩, hI.2.2.F ht⟩) hI.2.2.2.2 dX1_digs_8 hC.2.2.2.2.2.1
theorem k_X1_st_digs {p : Program} {l : Launch} {e : Env} {R : Room} {s s0 : State} {b0 : Addr} {m : MethodId} {args : Array Value} {below : List Frame} {meth : Method} {c : Code} {H : Heap} {locs : List Loc} {cells slots : Nat} {Q : State → Prop} {pc : Nat} {ls : Array Slot} {rest : List Value} {G : va_G} {ai : Nat → ClassId} {A : Nat → Prop} {cc : ByteArray} {nL f L kc ks : Nat} {sa : Nat → Nat} {tl : va_W} {v : MS} {k : Int32}  {r1 : Int32} {u1 : MS} (hC : mo_C p R s m args meth c G ai A RX1 cc nL f L kc ks) (h0 : mo_S0 s0 b0) (hZ : mo_Z s0 A s) (hI : mo_I G A s.heap (st_W ai sa v tl) H locs) (hjk : gi k 3 = true) (hz : f_st_digs v k = some (r1, u1)) (hf : 5 + 1 ≤ f) (hL : 8 + (4 + 11) + 110 ≤ L) (hsz : ls.size = nL) (hW : (rest.map fun v => v.category).sum ≤ 8) (hdg : decode cc pc = .ok (.invokevirtual 173, 3)) (kk : ∀ (H1 : Heap) (locs1 : List Loc), mo_I G A s.heap (st_W ai sa u1 tl) H1 locs1 → W p l e R s m args below meth c H1 locs1 cells slots Q (F0 m (pc + 3) ls (.int r1 :: rest))) (hc0 : cells + 0 ≤ kc := by first | exact Nat.zero_le _ | exact Nat.le_of_ble_eq_true rfl | assumption | omega) (hs0 : slots + 0 ≤ ks := by first | exact Nat.zero_le _ | exact Nat.le_of_ble_eq_true rfl | assumption | omega) : W p l e R s m args below meth c H locs cells slots Q (F0 m pc ls (.ref (sa (14 + k.toNatClampNeg)) :: .ref (sa 0) :: rest)) :=
  gz_usei0 hC.2.2.2.2.2.2.2.1 hI (va_runV (As := [.ref (sa (14 + k.toNatClampNeg))]) (rest := rest) ⟨hC.1, hC.2.1, hC.2.2.1, hC.2.2.2.1, hC.2.2.2.2.1⟩ (w_st_digs l G ai h0 v k r1 u1 hz H.size) (cwV 1 hC.2.2.2.2.1 (lw_V q1073 q1074 q1075 q116 q1076) rfl rfl rfl (by decide +kernel) ⟨Nat.le_trans hf hC.2.2.2.2.2.2.2.2.1, Nat.le_trans hL hC.2.2.2.2.2.2.2.2.2.1⟩) ⟨gz_blind, (va_recv hC.2.2.2.2.2.2.1 hI.1 (ci := 2) (q0 := 0) rfl rfl), gz_pre0 hC hZ hI⟩ rfl rfl hsz rfl (lv_room hW) hdg ⟨Nat.le_trans hc0 hC.2.2.2.2.2.2.2.2.2.2.1, Nat.le_trans hs0 hC.2.2.2.2.2.2.2.2.2.2.2⟩) (fun r u H1 locs1 hp hI1 => by obtain ⟨rfl, rfl⟩ := hp; exact kk H1 locs1 hI1)
def f_st_ends_L2 (kont : MS → Option (Int32 × MS)) : Nat → MS → Int32 → Option (Int32 × MS)
  | 0, _, _ => none
  | n + 1, x_v, x1 => if 30 ≤ x1 then (kont x_v) else (ob (f_st_mossDay x_v x1) (fun r2 u3 => lt (x1 + 1) (fun x1_5 => f_st_ends_L2 kont n u3 x1_5)))
def f_st_ends_L21 (kont : MS → Option (Int32 × MS)) : Nat → MS → Int32 → Option (Int32 × MS)
  | 0, _, _ => none
  | n + 1, x_v, x1 => if 30 ≤ x1 then (kont x_v) else (ov (bs_get (x_v 4) x1) (fun r8 => lj (fun (v10 : MS) (t11 : Int32) (t12 : Int32) => gd (gi t11 30) (lt (rup v10 3 (upd (v10 3) t11.toNatClampNeg t12)) (fun v15 => lt (x1 + 1) (fun x1_16 => f_st_ends_L21 kont n v15 x1_16)))) (fun j67_12 => if r8 = 0 then (gd (gi x1 30) (gd (gi x1 30) (j67_12 x_v x1 (p_mmin 9 ((x_v 3 x1.toNatClampNeg) + ((x_v 1 x1.toNatClampNeg) / 2)))))) else (j67_12 x_v x1 0))))
def f_st_ends_L78 (kont : MS → Int32 → Option (Int32 × MS)) : Nat → MS → Int32 → Int32 → Option (Int32 × MS)
  | 0, _, _, _ => none
  | n + 1, x_v, x2, x1 => if (x_v 0 8) ≤ x2 then (kont x_v x1) else (gd (gi x2 3) (ob (f_st_digs x_v x2) (fun r23 u24 => lt ((x1 + r23)) (fun x1_26 => lt (x2 + 1) (fun x2_27 => f_st_ends_L78 kont n u24 x2_27 x1_26)))))
def f_st_ends_L107 (a1 : Int32) (kont : MS → Option (Int32 × MS)) : Nat → MS → Int32 → Option (Int32 × MS)
  | 0, _, _ => none
  | n + 1, x_v, x2 => if (x_v 0 6) ≤ x2 then (kont x_v) else (gd (gi x2 4) (lt (rup x_v (6 + x2.toNatClampNeg) (upd (x_v (6 + x2.toNatClampNeg)) 1 6)) (fun v32 => lt (x2 + 1) (fun x2_33 => f_st_ends_L107 a1 kont n v32 x2_33))))
def f_st_ends (v : MS) : Option ((Int32 × MS)) := f_st_ends_L2 (fun v6 => f_st_ends_L21 (fun v20 => f_st_ends_L78 (fun v28 x1_29 => f_st_ends_L107 x1_29 (fun v34 => lj (fun (v35 : MS) (t36 : Int32) (t37 : Int32) => lt (rup v35 0 (upd (v35 0) 18 (t36 + t37))) (fun v39 => lt (rup v39 0 (upd (v39 0) 13 ((v39 0 13) + 1))) (fun v40 => some (x1_29, v40)))) (fun j150_37 => if (v34 0 12) < 3 then (j150_37 v34 (v34 0 18) 3) else (j150_37 v34 (v34 0 18) 5))) 2000 v28 0) 2000 v20 0 0) 2000 v6 0) 2000 v 0
set_option maxHeartbeats 4000000 in
theorem w_st_ends_L2 {p : Program} {l : Launch} {e : Env} {R : Room} {s s0 : State} {b0 : Addr} {m : MethodId} {args : Array Value} {below : List Frame} {meth : Method} {c : Code} {G : va_G} {ai : Nat → ClassId} {A : Nat → Prop} {sa : Nat → Nat} {tl : va_W} {r0 : Int32} {u0 : MS} (hC : mo_C p R s m args meth c G ai A RX1 cX1_ends 3 6 133 0 0) (h0 : mo_S0 s0 b0) (hZ : mo_Z s0 A s) (hr : meth.sig.returnType = (some .int)) (kont : MS → Option (Int32 × MS)) (K : ∀ (x_v : MS) (H : Heap) (locs : List Loc) (ls : Array Slot), kont x_v = some (r0, u0) → mo_I G A s.heap (st_W ai sa x_v tl) H locs → lv_has ls 3 [(0, .ref (sa 0))] → W p l e R s m args below meth c H locs 0 0 (MQ below (va_Qi (fun (r : Int32) (u : MS) => r = r0 ∧ u = u0) (gw_E G ai (fun v => (st_W ai sa v tl)) A) A) args s 0 0 A) (F0 m 19 ls [])) :
    ∀ (n : Nat) (x_v : MS) (x1 : Int32) (H : Heap) (locs : List Loc) (ls : Array Slot), f_st_ends_L2 kont n x_v x1 = some (r0, u0) → mo_I G A s.heap (st_W ai sa x_v tl) H locs → lv_has ls 3 [(1, .int x1), (0, .ref (sa 0))] → W p l e R s m args below meth c H locs 0 0 (MQ below (va_Qi (fun (r : Int32) (u : MS) => r = r0 ∧ u = u0) (gw_E G ai (fun v => (st_W ai sa v tl)) A) A) args s 0 0 A) (F0 m 2 ls []) := by
  have hx := hC.1
  have hb := hC.2.1
  intro n
  induction n with
  | zero =>
    intro x_v x1 H locs ls hF
    have h0 : (none : Option (Int32 × MS)) = some (r0, u0) := hF
    cases h0
  | succ n ih =>
    intro x_v x1 H locs ls hF hI hl
    rw [f_st_ends_L2] at hF
    refine lv_iload_n hx hb dX1_ends_2 rfl (lv_at hl 0 rfl) ?_
    refine lv_bipush (v := 30) hx hb dX1_ends_3 (by decide) ?_
    refine lv_icmp_ge (tgt := 19) hx hb dX1_ends_5 (by decide) (fun c1 => ?_) (fun c1 => ?_)
    · have hF := if_t hF c1
      exact K _ _ _ _ hF hI (lv_sub hl [1] rfl)
    · have hF := if_f hF c1
      refine lv_aload_n hx hb dX1_ends_8 rfl (lv_at hl 1 rfl) ?_
      refine lv_iload_n hx hb dX1_ends_9 rfl (lv_at hl 0 rfl) ?_
      obtain ⟨r2, u3, hz4, hF⟩ := ob_some hF
      refine k_X1_st_mossDay hC h0 hZ hI hz4 (Nat.le_of_ble_eq_true rfl) (Nat.le_of_ble_eq_true rfl) hl.1 (Nat.le_of_ble_eq_true rfl) dX1_ends_10 (fun H locs hI => ?_)
      obtain ⟨x1_5, hx1_5, hF⟩ := lt_some hF
      refine mo_inc (k := 0) (lv' := [(1, .int x1_5), (0, .ref (sa 0))]) hx hb hx1_5 (by decide) dX1_ends_13 hl rfl (by decide) rfl (fun ls hl => ?_)
      refine lv_goto (tgt := 2) hx hb dX1_ends_16 (by decide) ?_
      exact ih _ _ _ _ _ hF hI (lv_sub hl [0, 1] rfl)
set_option maxHeartbeats 4000000 in
theorem w_st_ends_L21 {p : Program} {l : Launch} {e : Env} {R : Room} {s s0 : State} {b0 : Addr} {m : MethodId} {args : Array Value} {below : List Frame} {meth : Method} {c : Code} {G : va_G} {ai : Nat → ClassId} {A : Nat → Prop} {sa : Nat → Nat} {tl : va_W} {r0 : Int32} {u0 : MS} (hC : mo_C p R s m args meth c G ai A RX1 cX1_ends 3 6 133 0 0) (h0 : mo_S0 s0 b0) (hZ : mo_Z s0 A s) (hr : meth.sig.returnType = (some .int)) (kont : MS → Option (Int32 × MS)) (K : ∀ (x_v : MS) (H : Heap) (locs : List Loc) (ls : Array Slot), kont x_v = some (r0, u0) → mo_I G A s.heap (st_W ai sa x_v tl) H locs → lv_has ls 3 [(0, .ref (sa 0))] → W p l e R s m args below meth c H locs 0 0 (MQ below (va_Qi (fun (r : Int32) (u : MS) => r = r0 ∧ u = u0) (gw_E G ai (fun v => (st_W ai sa v tl)) A) A) args s 0 0 A) (F0 m 74 ls [])) :
    ∀ (n : Nat) (x_v : MS) (x1 : Int32) (H : Heap) (locs : List Loc) (ls : Array Slot), f_st_ends_L21 kont n x_v x1 = some (r0, u0) → mo_I G A s.heap (st_W ai sa x_v tl) H locs → lv_has ls 3 [(1, .int x1), (0, .ref (sa 0))] → W p l e R s m args below meth c H locs 0 0 (MQ below (va_Qi (fun (r : Int32) (u : MS) => r = r0 ∧ u = u0) (gw_E G ai (fun v => (st_W ai sa v tl)) A) A) args s 0 0 A) (F0 m 21 ls []) := by
  have hx := hC.1
  have hb := hC.2.1
  intro n
  induction n with
  | zero =>
    intro x_v x1 H locs ls hF
    have h0 : (none : Option (Int32 × MS)) = some (r0, u0) := hF
    cases h0
  | succ n ih =>
    intro x_v x1 H locs ls hF hI hl
    rw [f_st_ends_L21] at hF
    refine lv_iload_n hx hb dX1_ends_21 rfl (lv_at hl 0 rfl) ?_
    refine lv_bipush (v := 30) hx hb dX1_ends_22 (by decide) ?_
    refine lv_icmp_ge (tgt := 74) hx hb dX1_ends_24 (by decide) (fun c7 => ?_) (fun c7 => ?_)
    · have hF := if_t hF c7
      exact K _ _ _ _ hF hI (lv_sub hl [1] rfl)
    · have hF := if_f hF c7
      refine lv_aload_n hx hb dX1_ends_27 rfl (lv_at hl 1 rfl) ?_
      refine st_X1_g_st_leaves hC h0 hZ hI dX1_ends_28 ?_
      refine lv_iload_n hx hb dX1_ends_31 rfl (lv_at hl 0 rfl) ?_
      refine lv_aload_n hx hb dX1_ends_32 rfl (lv_at hl 1 rfl) ?_
      refine st_X1_g_st_stones hC h0 hZ hI dX1_ends_33 ?_
      refine lv_iload_n hx hb dX1_ends_36 rfl (lv_at hl 0 rfl) ?_
      obtain ⟨r8, hz9, hF⟩ := ov_some hF
      refine st_X1_stones_get hC h0 hZ hI hz9 (Nat.le_of_ble_eq_true rfl) (Nat.le_of_ble_eq_true rfl) hl.1 (Nat.le_of_ble_eq_true rfl) dX1_ends_37 ?_
      obtain ⟨j67_12, hj67_12, hF⟩ := lj_some hF
      have J67 : ∀ (v10 : MS) (t11 : Int32) (t12 : Int32) (H : Heap) (locs : List Loc) (ls : Array Slot), j67_12 v10 t11 t12 = some (r0, u0) → mo_I G A s.heap (st_W ai sa v10 tl) H locs → lv_has ls 3 [(1, .int x1), (0, .ref (sa 0))] → W p l e R s m args below meth c H locs 0 0 (MQ below (va_Qi (fun (r : Int32) (u : MS) => r = r0 ∧ u = u0) (gw_E G ai (fun v => (st_W ai sa v tl)) A) A) args s 0 0 A) (F0 m 67 ls [.int t12, .int t11, .ref (sa 3)]) := by
        intro v10 t11 t12 H locs ls hF hI hl
        rw [hj67_12] at hF
        obtain ⟨hg14, hF⟩ := gd_some hF
        obtain ⟨v15, hv15, hF⟩ := lt_some hF
        refine st_s_leaves hC hI hg14 hv15 dX1_ends_67 (fun H locs hI => ?_)
        obtain ⟨x1_16, hx1_16, hF⟩ := lt_some hF
        refine mo_inc (k := 0) (lv' := [(1, .int x1_16), (0, .ref (sa 0))]) hx hb hx1_16 (by decide) dX1_ends_68 hl rfl (by decide) rfl (fun ls hl => ?_)
        refine lv_goto (tgt := 21) hx hb dX1_ends_71 (by decide) ?_
        exact ih _ _ _ _ _ hF hI (lv_sub hl [0, 1] rfl)
      refine lv_if_eq (tgt := 47) hx hb dX1_ends_40 (by decide) (fun c17 => ?_) (fun c17 => ?_)
      · have hF := if_t hF c17
        refine lv_bipush (v := 9) hx hb dX1_ends_47 (by decide) ?_
        refine lv_aload_n hx hb dX1_ends_49 rfl (lv_at hl 1 rfl) ?_
        refine st_X1_g_st_leaves hC h0 hZ hI dX1_ends_50 ?_
        refine lv_iload_n hx hb dX1_ends_53 rfl (lv_at hl 0 rfl) ?_
        obtain ⟨hg18, hF⟩ := gd_some hF
        refine st_l_leaves hC hI hg18 dX1_ends_54 ?_
        refine lv_aload_n hx hb dX1_ends_55 rfl (lv_at hl 1 rfl) ?_
        refine st_X1_g_st_shade hC h0 hZ hI dX1_ends_56 ?_
        refine lv_iload_n hx hb dX1_ends_59 rfl (lv_at hl 0 rfl) ?_
        obtain ⟨hg19, hF⟩ := gd_some hF
        refine st_l_shade hC hI hg19 dX1_ends_60 ?_
        refine lv_iconst (v := 2) hx hb dX1_ends_61 (by decide) ?_
        refine lv_idiv hx hb dX1_ends_62 (by decide) ?_
        refine lv_iadd hx hb dX1_ends_63 ?_
        refine mo_min (mo_CN hC) q1041 (Nat.le_of_ble_eq_true rfl) (Nat.le_of_ble_eq_true rfl) hl.1 (Nat.le_of_ble_eq_true rfl) dX1_ends_64 ?_
        exact J67 _ _ _ _ _ _ hF hI (lv_sub hl [0, 1] rfl)
      · have hF := if_f hF c17
        refine lv_iconst (v := 0) hx hb dX1_ends_43 (by decide) ?_
        refine lv_goto (tgt := 67) hx hb dX1_ends_44 (by decide) ?_
        exact J67 _ _ _ _ _ _ hF hI (lv_sub hl [0, 1] rfl)
set_option maxHeartbeats 4000000 in
theorem w_st_ends_L78 {p : Program} {l : Launch} {e : Env} {R : Room} {s s0 : State} {b0 : Addr} {m : MethodId} {args : Array Value} {below : List Frame} {meth : Method} {c : Code} {G : va_G} {ai : Nat → ClassId} {A : Nat → Prop} {sa : Nat → Nat} {tl : va_W} {r0 : Int32} {u0 : MS} (hC : mo_C p R s m args meth c G ai A RX1 cX1_ends 3 6 133 0 0) (h0 : mo_S0 s0 b0) (hZ : mo_Z s0 A s) (hr : meth.sig.returnType = (some .int)) (kont : MS → Int32 → Option (Int32 × MS)) (K : ∀ (x_v : MS) (x1 : Int32) (H : Heap) (locs : List Loc) (ls : Array Slot), kont x_v x1 = some (r0, u0) → mo_I G A s.heap (st_W ai sa x_v tl) H locs → lv_has ls 3 [(1, .int x1), (0, .ref (sa 0))] → W p l e R s m args below meth c H locs 0 0 (MQ below (va_Qi (fun (r : Int32) (u : MS) => r = r0 ∧ u = u0) (gw_E G ai (fun v => (st_W ai sa v tl)) A) A) args s 0 0 A) (F0 m 105 ls [])) :
    ∀ (n : Nat) (x_v : MS) (x2 : Int32) (x1 : Int32) (H : Heap) (locs : List Loc) (ls : Array Slot), f_st_ends_L78 kont n x_v x2 x1 = some (r0, u0) → mo_I G A s.heap (st_W ai sa x_v tl) H locs → lv_has ls 3 [(2, .int x2), (1, .int x1), (0, .ref (sa 0))] → W p l e R s m args below meth c H locs 0 0 (MQ below (va_Qi (fun (r : Int32) (u : MS) => r = r0 ∧ u = u0) (gw_E G ai (fun v => (st_W ai sa v tl)) A) A) args s 0 0 A) (F0 m 78 ls []) := by
  have hx := hC.1
  have hb := hC.2.1
  intro n
  induction n with
  | zero =>
    intro x_v x2 x1 H locs ls hF
    have h0 : (none : Option (Int32 × MS)) = some (r0, u0) := hF
    cases h0
  | succ n ih =>
    intro x_v x2 x1 H locs ls hF hI hl
    rw [f_st_ends_L78] at hF
    refine lv_iload_n hx hb dX1_ends_78 rfl (lv_at hl 0 rfl) ?_
    refine lv_aload_n hx hb dX1_ends_79 rfl (lv_at hl 2 rfl) ?_
    refine st_X1_g_st_moleMany hC h0 hZ hI dX1_ends_80 ?_
    refine lv_icmp_ge (tgt := 105) hx hb dX1_ends_83 (by decide) (fun c21 => ?_) (fun c21 => ?_)
    · have hF := if_t hF c21
      exact K _ _ _ _ _ hF hI (lv_sub hl [1, 2] rfl)
    · have hF := if_f hF c21
      refine lv_iload_n hx hb dX1_ends_86 rfl (lv_at hl 1 rfl) ?_
      refine lv_aload_n hx hb dX1_ends_87 rfl (lv_at hl 2 rfl) ?_
      refine lv_aload_n hx hb dX1_ends_88 rfl (lv_at hl 2 rfl) ?_
      refine st_X1_g_st_moles hC h0 hZ hI dX1_ends_89 ?_
      refine lv_iload_n hx hb dX1_ends_92 rfl (lv_at hl 0 rfl) ?_
      obtain ⟨hg22, hF⟩ := gd_some hF
      refine st_l_moles hC hI hg22 dX1_ends_93 ?_
      obtain ⟨r23, u24, hz25, hF⟩ := ob_some hF
      refine k_X1_st_digs hC h0 hZ hI hg22 hz25 (Nat.le_of_ble_eq_true rfl) (Nat.le_of_ble_eq_true rfl) hl.1 (Nat.le_of_ble_eq_true rfl) dX1_ends_94 (fun H locs hI => ?_)
      refine lv_iadd hx hb dX1_ends_97 ?_
      obtain ⟨x1_26, hx1_26, hF⟩ := lt_some hF
      refine mo_ist (lv' := [(1, .int x1_26), (2, .int x2), (0, .ref (sa 0))]) hx hb hx1_26 dX1_ends_98 rfl hl (by decide) rfl (fun ls hl => ?_)
      obtain ⟨x2_27, hx2_27, hF⟩ := lt_some hF
      refine mo_inc (k := 1) (lv' := [(2, .int x2_27), (1, .int x1_26), (0, .ref (sa 0))]) hx hb hx2_27 (by decide) dX1_ends_99 hl rfl (by decide) rfl (fun ls hl => ?_)
      refine lv_goto (tgt := 78) hx hb dX1_ends_102 (by decide) ?_
      exact ih _ _ _ _ _ _ hF hI (lv_sub hl [0, 1, 2] rfl)
set_option maxHeartbeats 4000000 in
theorem w_st_ends_L107 {p : Program} {l : Launch} {e : Env} {R : Room} {s s0 : State} {b0 : Addr} {m : MethodId} {args : Array Value} {below : List Frame} {meth : Method} {c : Code} {G : va_G} {ai : Nat → ClassId} {A : Nat → Prop} {sa : Nat → Nat} {tl : va_W} {r0 : Int32} {u0 : MS} (hC : mo_C p R s m args meth c G ai A RX1 cX1_ends 3 6 133 0 0) (h0 : mo_S0 s0 b0) (hZ : mo_Z s0 A s) (hr : meth.sig.returnType = (some .int)) (a1 : Int32) (kont : MS → Option (Int32 × MS)) (K : ∀ (x_v : MS) (H : Heap) (locs : List Loc) (ls : Array Slot), kont x_v = some (r0, u0) → mo_I G A s.heap (st_W ai sa x_v tl) H locs → lv_has ls 3 [(1, .int a1), (0, .ref (sa 0))] → W p l e R s m args below meth c H locs 0 0 (MQ below (va_Qi (fun (r : Int32) (u : MS) => r = r0 ∧ u = u0) (gw_E G ai (fun v => (st_W ai sa v tl)) A) A) args s 0 0 A) (F0 m 132 ls [])) :
    ∀ (n : Nat) (x_v : MS) (x2 : Int32) (H : Heap) (locs : List Loc) (ls : Array Slot), f_st_ends_L107 a1 kont n x_v x2 = some (r0, u0) → mo_I G A s.heap (st_W ai sa x_v tl) H locs → lv_has ls 3 [(2, .int x2), (1, .int a1), (0, .ref (sa 0))] → W p l e R s m args below meth c H locs 0 0 (MQ below (va_Qi (fun (r : Int32) (u : MS) => r = r0 ∧ u = u0) (gw_E G ai (fun v => (st_W ai sa v tl)) A) A) args s 0 0 A) (F0 m 107 ls []) := by
  have hx := hC.1
  have hb := hC.2.1
  intro n
  induction n with
  | zero =>
    intro x_v x2 H locs ls hF
    have h0 : (none : Option (Int32 × MS)) = some (r0, u0) := hF
    cases h0
  | succ n ih =>
    intro x_v x2 H locs ls hF hI hl
    rw [f_st_ends_L107] at hF
    refine lv_iload_n hx hb dX1_ends_107 rfl (lv_at hl 0 rfl) ?_
    refine lv_aload_n hx hb dX1_ends_108 rfl (lv_at hl 2 rfl) ?_
    refine st_X1_g_st_gardenerMany hC h0 hZ hI dX1_ends_109 ?_
    refine lv_icmp_ge (tgt := 132) hx hb dX1_ends_112 (by decide) (fun c30 => ?_) (fun c30 => ?_)
    · have hF := if_t hF c30
      exact K _ _ _ _ hF hI (lv_sub hl [1, 2] rfl)
    · have hF := if_f hF c30
      refine lv_aload_n hx hb dX1_ends_115 rfl (lv_at hl 2 rfl) ?_
      refine st_X1_g_st_gardeners hC h0 hZ hI dX1_ends_116 ?_
      refine lv_iload_n hx hb dX1_ends_119 rfl (lv_at hl 0 rfl) ?_
      obtain ⟨hg31, hF⟩ := gd_some hF
      refine st_l_gards hC hI hg31 dX1_ends_120 ?_
      refine lv_bipush (v := 6) hx hb dX1_ends_121 (by decide) ?_
      obtain ⟨v32, hv32, hF⟩ := lt_some hF
      refine st_X1_p_gard_hours hC h0 hZ hI hg31 hv32 dX1_ends_123 (fun H locs hI => ?_)
      obtain ⟨x2_33, hx2_33, hF⟩ := lt_some hF
      refine mo_inc (k := 0) (lv' := [(2, .int x2_33), (1, .int a1), (0, .ref (sa 0))]) hx hb hx2_33 (by decide) dX1_ends_126 hl rfl (by decide) rfl (fun ls hl => ?_)
      refine lv_goto (tgt := 107) hx hb dX1_ends_129 (by decide) ?_
      exact ih _ _ _ _ _ hF hI (lv_sub hl [0, 1, 2] rfl)
set_option maxHeartbeats 4000000 in
theorem w_st_ends (l : Launch) (G : va_G) (ai : Nat → ClassId) {s0 : State} {b0 : Addr} (h0 : mo_S0 s0 b0) {sa : Nat → Nat} {tl : va_W} (v : MS) (r0 : Int32) (u0 : MS) (hF : f_st_ends v = some (r0, u0)) : gz_Mi l G ai s0 (fun v => (st_W ai sa v tl)) yX1_ends cX1_ends 3 (some .int) ({ frames := 6, cells := 0, slots := 0, locals := 133 } : Room) [.ref (sa 0)] (st_W ai sa v tl) (fun (r : Int32) (u : MS) => r = r0 ∧ u = u0) 0 0 := by
  refine gz_body (Qc := fun A => va_Qi (fun (r : Int32) (u : MS) => r = r0 ∧ u = u0) (gw_E G ai (fun v => (st_W ai sa v tl)) A) A) (fr := fun A => A) (by decide) (Nat.le_of_ble_eq_true rfl) ?_
  intro p e s m args below meth c A ls hC hZ hr hI hl hnm
  have hx := hC.1
  have hb := hC.2.1
  have hl : lv_has ls 3 [(0, .ref (sa 0))] := hl
  show W p l e _ s m args below meth c s.heap [] 0 0 (MQ below (va_Qi (fun (r : Int32) (u : MS) => r = r0 ∧ u = u0) (gw_E G ai (fun v => (st_W ai sa v tl)) A) A) args s 0 0 A) (F0 m 0 ls [])
  rw [f_st_ends] at hF
  refine lv_iconst (v := 0) hx hb dX1_ends_0 (by decide) ?_
  refine mo_ist (lv' := [(1, .int 0), (0, .ref (sa 0))]) hx hb rfl dX1_ends_1 rfl hl (by decide) rfl (fun ls hl => ?_)
  refine w_st_ends_L2 hC h0 hZ hr _ (fun v6 H locs ls hF hI hl => ?_) 2000 _ _ _ _ _ hF hI (lv_sub hl [0, 1] rfl)
  refine lv_iconst (v := 0) hx hb dX1_ends_19 (by decide) ?_
  refine mo_ist (lv' := [(1, .int 0), (0, .ref (sa 0))]) hx hb rfl dX1_ends_20 rfl hl (by decide) rfl (fun ls hl => ?_)
  refine w_st_ends_L21 hC h0 hZ hr _ (fun v20 H locs ls hF hI hl => ?_) 2000 _ _ _ _ _ hF hI (lv_sub hl [0, 1] rfl)
  refine lv_iconst (v := 0) hx hb dX1_ends_74 (by decide) ?_
  refine mo_ist (lv' := [(1, .int 0), (0, .ref (sa 0))]) hx hb rfl dX1_ends_75 rfl hl (by decide) rfl (fun ls hl => ?_)
  refine lv_iconst (v := 0) hx hb dX1_ends_76 (by decide) ?_
  refine mo_ist (lv' := [(2, .int 0), (1, .int 0), (0, .ref (sa 0))]) hx hb rfl dX1_ends_77 rfl hl (by decide) rfl (fun ls hl => ?_)
  refine w_st_ends_L78 hC h0 hZ hr _ (fun v28 x1_29 H locs ls hF hI hl => ?_) 2000 _ _ _ _ _ _ hF hI (lv_sub hl [0, 1, 2] rfl)
  refine lv_iconst (v := 0) hx hb dX1_ends_105 (by decide) ?_
  refine mo_ist (lv' := [(2, .int 0), (1, .int x1_29), (0, .ref (sa 0))]) hx hb rfl dX1_ends_106 rfl hl (by decide) rfl (fun ls hl => ?_)
  refine w_st_ends_L107 hC h0 hZ hr x1_29 _ (fun v34 H locs ls hF hI hl => ?_) 2000 _ _ _ _ _ hF hI (lv_sub hl [0, 1, 2] rfl)
  refine lv_aload_n hx hb dX1_ends_132 rfl (lv_at hl 1 rfl) ?_
  refine lv_dup hx hb dX1_ends_133 rfl ?_
  refine st_X1_g_st_strokes hC h0 hZ hI dX1_ends_134 ?_
  refine lv_aload_n hx hb dX1_ends_137 rfl (lv_at hl 1 rfl) ?_
  refine st_X1_g_st_rain hC h0 hZ hI dX1_ends_138 ?_
  refine lv_iconst (v := 3) hx hb dX1_ends_141 (by decide) ?_
  obtain ⟨j150_37, hj150_37, hF⟩ := lj_some hF
  have J150 : ∀ (v35 : MS) (t36 : Int32) (t37 : Int32) (H : Heap) (locs : List Loc) (ls : Array Slot), j150_37 v35 t36 t37 = some (r0, u0) → mo_I G A s.heap (st_W ai sa v35 tl) H locs → lv_has ls 3 [(1, .int x1_29), (0, .ref (sa 0))] → W p l e ({ frames := 6, cells := 0, slots := 0, locals := 133 } : Room) s m args below meth c H locs 0 0 (MQ below (va_Qi (fun (r : Int32) (u : MS) => r = r0 ∧ u = u0) (gw_E G ai (fun v => (st_W ai sa v tl)) A) A) args s 0 0 A) (F0 m 150 ls [.int t37, .int t36, .ref (sa 0)]) := by
    intro v35 t36 t37 H locs ls hF hI hl
    rw [hj150_37] at hF
    refine lv_iadd hx hb dX1_ends_150 ?_
    obtain ⟨v39, hv39, hF⟩ := lt_some hF
    refine st_X1_p_st_strokes hC h0 hZ hI hv39 dX1_ends_151 (fun H locs hI => ?_)
    refine lv_aload_n hx hb dX1_ends_154 rfl (lv_at hl 1 rfl) ?_
    refine lv_dup hx hb dX1_ends_155 rfl ?_
    refine st_X1_g_st_day hC h0 hZ hI dX1_ends_156 ?_
    refine lv_iconst (v := 1) hx hb dX1_ends_159 (by decide) ?_
    refine lv_iadd hx hb dX1_ends_160 ?_
    obtain ⟨v40, hv40, hF⟩ := lt_some hF
    refine st_X1_p_st_day hC h0 hZ hI hv40 dX1_ends_161 (fun H locs hI => ?_)
    refine lv_iload_n hx hb dX1_ends_164 rfl (lv_at hl 0 rfl) ?_
    cases hF
    exact W.zret hx hb hr rfl (fun t ht hW => ⟨⟨_, _, rfl, ⟨rfl, rfl⟩, by rw [ht]; exact hI.1, va_K.moved hW.alike hC.2.2.2.2.2.2.1, hI.2.1⟩, hI.2.2.F ht⟩) hI.2.2.2.2 dX1_ends_165 hC.2.2.2.2.2.1
  refine lv_icmp_lt (tgt := 149) hx hb dX1_ends_142 (by decide) (fun c41 => ?_) (fun c41 => ?_)
  · have hF := if_t hF c41
    refine lv_iconst (v := 3) hx hb dX1_ends_149 (by decide) ?_
    exact J150 _ _ _ _ _ _ hF hI (lv_sub hl [0, 1] rfl)
  · have hF := if_f hF c41
    refine lv_iconst (v := 5) hx hb dX1_ends_145 (by decide) ?_
    refine lv_goto (tgt := 150) hx hb dX1_ends_146 (by decide) ?_
    exact J150 _ _ _ _ _ _ hF hI (lv_sub hl [0, 1] rfl)
theorem k_X0_st_ends {p : Program} {l : Launch} {e : Env} {R : Room} {s s0 : State} {b0 : Addr} {m : MethodId} {args : Array Value} {below : List Frame} {meth : Method} {c : Code} {H : Heap} {locs : List Loc} {cells slots : Nat} {Q : State → Prop} {pc : Nat} {ls : Array Slot} {rest : List Value} {G : va_G} {ai : Nat → ClassId} {A : Nat → Prop} {cc : ByteArray} {nL f L kc ks : Nat} {sa : Nat → Nat} {tl : va_W} {v : MS}  {r1 : Int32} {u1 : MS} (hC : mo_C p R s m args meth c G ai A RX0 cc nL f L kc ks) (h0 : mo_S0 s0 b0) (hZ : mo_Z s0 A s) (hI : mo_I G A s.heap (st_W ai sa v tl) H locs) (hz : f_st_ends v = some (r1, u1)) (hf : 6 + 1 ≤ f) (hL : 8 + (3 + 11) + 133 ≤ L) (hsz : ls.size = nL) (hW : (rest.map fun v => v.category).sum ≤ 8) (hdg : decode cc pc = .ok (.invokevirtual 317, 3)) (kk : ∀ (H1 : Heap) (locs1 : List Loc), mo_I G A s.heap (st_W ai sa u1 tl) H1 locs1 → W p l e R s m args below meth c H1 locs1 cells slots Q (F0 m (pc + 3) ls (.int r1 :: rest))) (hc0 : cells + 0 ≤ kc := by first | exact Nat.zero_le _ | exact Nat.le_of_ble_eq_true rfl | assumption | omega) (hs0 : slots + 0 ≤ ks := by first | exact Nat.zero_le _ | exact Nat.le_of_ble_eq_true rfl | assumption | omega) : W p l e R s m args below meth c H locs cells slots Q (F0 m pc ls (.ref (sa 0) :: rest)) :=
  gz_usei0 hC.2.2.2.2.2.2.2.1 hI (va_runV (As := []) (rest := rest) ⟨hC.1, hC.2.1, hC.2.2.1, hC.2.2.2.1, hC.2.2.2.2.1⟩ (w_st_ends l G ai h0 v r1 u1 hz H.size) (cwV 0 hC.2.2.2.2.1 (lw_V q1062 q1063 q1064 q116 q1065) rfl rfl rfl (by decide +kernel) ⟨Nat.le_trans hf hC.2.2.2.2.2.2.2.2.1, Nat.le_trans hL hC.2.2.2.2.2.2.2.2.2.1⟩) ⟨gz_blind, (va_recv hC.2.2.2.2.2.2.1 hI.1 (ci := 2) (q0 := 0) rfl rfl), gz_pre0 hC hZ hI⟩ rfl rfl hsz rfl (lv_room hW) hdg ⟨Nat.le_trans hc0 hC.2.2.2.2.2.2.2.2.2.2.1, Nat.le_trans hs0 hC.2.2.2.2.2.2.2.2.2.2.2⟩) (fun r u H1 locs1 hp hI1 => by obtain ⟨rfl, rfl⟩ := hp; exact kk H1 locs1 hI1)

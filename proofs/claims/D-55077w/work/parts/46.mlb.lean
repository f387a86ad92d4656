set_option maxRecDepth 100000
theorem st_X0_g_st_rain {p : Program} {l : Launch} {e : Env} {R : Room} {s s0 : State} {b0 : Addr} {m : MethodId} {args : Array Value} {below : List Frame} {meth : Method} {c : Code} {H : Heap} {locs : List Loc} {cells slots : Nat} {Q : State → Prop} {pc : Nat} {ls : Array Slot} {rest : List Value} {G : va_G} {ai : Nat → ClassId} {A : Nat → Prop} {cc : ByteArray} {nL f L kc ks : Nat} {sa : Nat → Nat} {tl : va_W} {v : MS} (hC : mo_C p R s m args meth c G ai A RX0 cc nL f L kc ks) (h0 : mo_S0 s0 b0) (hZ : mo_Z s0 A s) (hI : mo_I G A s.heap (st_W ai sa v tl) H locs) (hdg : decode cc pc = .ok (.getfield 228, 3)) (kk : W p l e R s m args below meth c H locs cells slots Q (F0 m (pc + 3) ls (.int (v 0 12) :: rest))) : W p l e R s m args below meth c H locs cells slots Q (F0 m pc ls (.ref (sa 0) :: rest)) :=
  va_getN (D := G) (ci := 2) (C := RX1) (T := TX1) (N := 19) hC.1 hC.2.1 hC.2.2.2.2.1 in_X1 hC.2.2.2.1 hC.2.2.2.2.2.2.1 hI.1 0 rfl rfl 12 (by decide) (mo_nF h0 hZ q327) (fun _ h9 => h9) rfl hdg kk
theorem st_X0_p_st_rain {p : Program} {l : Launch} {e : Env} {R : Room} {s s0 : State} {b0 : Addr} {m : MethodId} {args : Array Value} {below : List Frame} {meth : Method} {c : Code} {H : Heap} {locs : List Loc} {cells slots : Nat} {Q : State → Prop} {pc : Nat} {ls : Array Slot} {rest : List Value} {G : va_G} {ai : Nat → ClassId} {A : Nat → Prop} {cc : ByteArray} {nL f L kc ks : Nat} {sa : Nat → Nat} {tl : va_W} {v : MS} {x : Int32} {z1 : MS} (hC : mo_C p R s m args meth c G ai A RX0 cc nL f L kc ks) (h0 : mo_S0 s0 b0) (hZ : mo_Z s0 A s) (hI : mo_I G A s.heap (st_W ai sa v tl) H locs) (hM : z1 = rup v 0 (upd (v 0) 12 x)) (hdg : decode cc pc = .ok (.putfield 228, 3)) (kk : ∀ (H1 : Heap) (locs1 : List Loc), mo_I G A s.heap (st_W ai sa z1 tl) H1 locs1 → W p l e R s m args below meth c H1 locs1 cells slots Q (F0 m (pc + 3) ls (rest))) : W p l e R s m args below meth c H locs cells slots Q (F0 m pc ls (.int x :: .ref (sa 0) :: rest)) := by
  subst z1
  exact va_putN (D := G) (ci := 2) (v := .int x) (ty := .int) (C := RX1) (T := TX1) (N := 19) hC.1 hC.2.1 hC.2.2.2.2.1 in_X1 tyX1 tyX1_ok nmX1 hC.2.2.2.1 hC.2.2.2.2.2.2.1 hI.1 hI.2.1 hI.2.2 0 rfl rfl 12 (by decide) (mo_nF h0 hZ q327) (fun _ h9 => h9) rfl (by decide +kernel) rfl rfl (Nat.le_of_ble_eq_true rfl) hdg (fun H locs hP hD hS => kk H locs ⟨hP, hD, hS⟩)
theorem st_X0_p_st_gardenerMany {p : Program} {l : Launch} {e : Env} {R : Room} {s s0 : State} {b0 : Addr} {m : MethodId} {args : Array Value} {below : List Frame} {meth : Method} {c : Code} {H : Heap} {locs : List Loc} {cells slots : Nat} {Q : State → Prop} {pc : Nat} {ls : Array Slot} {rest : List Value} {G : va_G} {ai : Nat → ClassId} {A : Nat → Prop} {cc : ByteArray} {nL f L kc ks : Nat} {sa : Nat → Nat} {tl : va_W} {v : MS} {x : Int32} {z1 : MS} (hC : mo_C p R s m args meth c G ai A RX0 cc nL f L kc ks) (h0 : mo_S0 s0 b0) (hZ : mo_Z s0 A s) (hI : mo_I G A s.heap (st_W ai sa v tl) H locs) (hM : z1 = rup v 0 (upd (v 0) 6 x)) (hdg : decode cc pc = .ok (.putfield 181, 3)) (kk : ∀ (H1 : Heap) (locs1 : List Loc), mo_I G A s.heap (st_W ai sa z1 tl) H1 locs1 → W p l e R s m args below meth c H1 locs1 cells slots Q (F0 m (pc + 3) ls (rest))) : W p l e R s m args below meth c H locs cells slots Q (F0 m pc ls (.int x :: .ref (sa 0) :: rest)) := by
  subst z1
  exact va_putN (D := G) (ci := 2) (v := .int x) (ty := .int) (C := RX1) (T := TX1) (N := 19) hC.1 hC.2.1 hC.2.2.2.2.1 in_X1 tyX1 tyX1_ok nmX1 hC.2.2.2.1 hC.2.2.2.2.2.2.1 hI.1 hI.2.1 hI.2.2 0 rfl rfl 6 (by decide) (mo_nF h0 hZ q315) (fun _ h9 => h9) rfl (by decide +kernel) rfl rfl (Nat.le_of_ble_eq_true rfl) hdg (fun H locs hP hD hS => kk H locs ⟨hP, hD, hS⟩)
theorem st_X0_p_gard_square {p : Program} {l : Launch} {e : Env} {R : Room} {s s0 : State} {b0 : Addr} {m : MethodId} {args : Array Value} {below : List Frame} {meth : Method} {c : Code} {H : Heap} {locs : List Loc} {cells slots : Nat} {Q : State → Prop} {pc : Nat} {ls : Array Slot} {rest : List Value} {G : va_G} {ai : Nat → ClassId} {A : Nat → Prop} {cc : ByteArray} {nL f L kc ks : Nat} {sa : Nat → Nat} {tl : va_W} {v : MS} {k x : Int32} {z1 : MS} (hC : mo_C p R s m args meth c G ai A RX0 cc nL f L kc ks) (h0 : mo_S0 s0 b0) (hZ : mo_Z s0 A s) (hI : mo_I G A s.heap (st_W ai sa v tl) H locs) (hj : gi k 4 = true) (hM : z1 = rup v (6 + k.toNatClampNeg) (upd (v (6 + k.toNatClampNeg)) 0 x)) (hdg : decode cc pc = .ok (.putfield 259, 3)) (kk : ∀ (H1 : Heap) (locs1 : List Loc), mo_I G A s.heap (st_W ai sa z1 tl) H1 locs1 → W p l e R s m args below meth c H1 locs1 cells slots Q (F0 m (pc + 3) ls (rest))) : W p l e R s m args below meth c H locs cells slots Q (F0 m pc ls (.int x :: .ref (sa (10 + k.toNatClampNeg)) :: rest)) := by
  subst z1
  obtain ⟨j, hj1, -, hc⟩ := gi_nI (by decide) hj
  rw [hc] at kk ⊢
  refine va_putN (D := G) (ci := 3) (v := .int x) (ty := .int) (C := RX2) (T := TX2) (N := 5) hC.1 hC.2.1 hC.2.2.2.2.1 in_X2 tyX2 tyX2_ok nmX2 hC.2.2.2.1 hC.2.2.2.2.2.2.1 hI.1 hI.2.1 hI.2.2 (7 + j) (st_hg j hj1) rfl 0 (by decide) (mo_nF h0 hZ q248) (fun _ h9 => h9) rfl (by decide +kernel) rfl rfl (Nat.le_of_ble_eq_true rfl) hdg (fun H locs hP hD hS => ?_)
  rw [st_sg (by decide) j hj1] at hP hD
  exact kk H locs ⟨hP, hD, hS⟩
theorem st_X0_g_gard_steps {p : Program} {l : Launch} {e : Env} {R : Room} {s s0 : State} {b0 : Addr} {m : MethodId} {args : Array Value} {below : List Frame} {meth : Method} {c : Code} {H : Heap} {locs : List Loc} {cells slots : Nat} {Q : State → Prop} {pc : Nat} {ls : Array Slot} {rest : List Value} {G : va_G} {ai : Nat → ClassId} {A : Nat → Prop} {cc : ByteArray} {nL f L kc ks : Nat} {sa : Nat → Nat} {tl : va_W} {v : MS} {k : Int32} (hC : mo_C p R s m args meth c G ai A RX0 cc nL f L kc ks) (h0 : mo_S0 s0 b0) (hZ : mo_Z s0 A s) (hI : mo_I G A s.heap (st_W ai sa v tl) H locs) (hj : gi k 4 = true) (hdg : decode cc pc = .ok (.getfield 276, 3)) (kk : W p l e R s m args below meth c H locs cells slots Q (F0 m (pc + 3) ls (.int (v (6 + k.toNatClampNeg) 4) :: rest))) : W p l e R s m args below meth c H locs cells slots Q (F0 m pc ls (.ref (sa (10 + k.toNatClampNeg)) :: rest)) := by
  obtain ⟨j, hj1, -, hc⟩ := gi_nI (by decide) hj
  rw [hc] at kk ⊢
  exact va_getN (D := G) (ci := 3) (C := RX2) (T := TX2) (N := 5) hC.1 hC.2.1 hC.2.2.2.2.1 in_X2 hC.2.2.2.1 hC.2.2.2.2.2.2.1 hI.1 (7 + j) (st_hg j hj1) rfl 4 (by decide) (mo_nF h0 hZ q257) (fun _ h9 => h9) rfl hdg kk
theorem st_X0_p_gard_steps {p : Program} {l : Launch} {e : Env} {R : Room} {s s0 : State} {b0 : Addr} {m : MethodId} {args : Array Value} {below : List Frame} {meth : Method} {c : Code} {H : Heap} {locs : List Loc} {cells slots : Nat} {Q : State → Prop} {pc : Nat} {ls : Array Slot} {rest : List Value} {G : va_G} {ai : Nat → ClassId} {A : Nat → Prop} {cc : ByteArray} {nL f L kc ks : Nat} {sa : Nat → Nat} {tl : va_W} {v : MS} {k x : Int32} {z1 : MS} (hC : mo_C p R s m args meth c G ai A RX0 cc nL f L kc ks) (h0 : mo_S0 s0 b0) (hZ : mo_Z s0 A s) (hI : mo_I G A s.heap (st_W ai sa v tl) H locs) (hj : gi k 4 = true) (hM : z1 = rup v (6 + k.toNatClampNeg) (upd (v (6 + k.toNatClampNeg)) 4 x)) (hdg : decode cc pc = .ok (.putfield 276, 3)) (kk : ∀ (H1 : Heap) (locs1 : List Loc), mo_I G A s.heap (st_W ai sa z1 tl) H1 locs1 → W p l e R s m args below meth c H1 locs1 cells slots Q (F0 m (pc + 3) ls (rest))) : W p l e R s m args below meth c H locs cells slots Q (F0 m pc ls (.int x :: .ref (sa (10 + k.toNatClampNeg)) :: rest)) := by
  subst z1
  obtain ⟨j, hj1, -, hc⟩ := gi_nI (by decide) hj
  rw [hc] at kk ⊢
  refine va_putN (D := G) (ci := 3) (v := .int x) (ty := .int) (C := RX2) (T := TX2) (N := 5) hC.1 hC.2.1 hC.2.2.2.2.1 in_X2 tyX2 tyX2_ok nmX2 hC.2.2.2.1 hC.2.2.2.2.2.2.1 hI.1 hI.2.1 hI.2.2 (7 + j) (st_hg j hj1) rfl 4 (by decide) (mo_nF h0 hZ q257) (fun _ h9 => h9) rfl (by decide +kernel) rfl rfl (Nat.le_of_ble_eq_true rfl) hdg (fun H locs hP hD hS => ?_)
  rw [st_sg (by decide) j hj1] at hP hD
  exact kk H locs ⟨hP, hD, hS⟩
theorem st_X0_g_st_leaves {p : Program} {l : Launch} {e : Env} {R : Room} {s s0 : State} {b0 : Addr} {m : MethodId} {args : Array Value} {below : List Frame} {meth : Method} {c : Code} {H : Heap} {locs : List Loc} {cells slots : Nat} {Q : State → Prop} {pc : Nat} {ls : Array Slot} {rest : List Value} {G : va_G} {ai : Nat → ClassId} {A : Nat → Prop} {cc : ByteArray} {nL f L kc ks : Nat} {sa : Nat → Nat} {tl : va_W} {v : MS} (hC : mo_C p R s m args meth c G ai A RX0 cc nL f L kc ks) (h0 : mo_S0 s0 b0) (hZ : mo_Z s0 A s) (hI : mo_I G A s.heap (st_W ai sa v tl) H locs) (hdg : decode cc pc = .ok (.getfield 215, 3)) (kk : W p l e R s m args below meth c H locs cells slots Q (F0 m (pc + 3) ls (.ref (sa 3) :: rest))) : W p l e R s m args below meth c H locs cells slots Q (F0 m pc ls (.ref (sa 0) :: rest)) :=
  va_getN (D := G) (ci := 2) (C := RX1) (T := TX1) (N := 19) hC.1 hC.2.1 hC.2.2.2.2.1 in_X1 hC.2.2.2.1 hC.2.2.2.2.2.2.1 hI.1 0 rfl rfl 2 (by decide) (mo_nF h0 hZ q307) (fun _ h9 => h9) rfl hdg kk
theorem st_X0_g_gard_bamboo {p : Program} {l : Launch} {e : Env} {R : Room} {s s0 : State} {b0 : Addr} {m : MethodId} {args : Array Value} {below : List Frame} {meth : Method} {c : Code} {H : Heap} {locs : List Loc} {cells slots : Nat} {Q : State → Prop} {pc : Nat} {ls : Array Slot} {rest : List Value} {G : va_G} {ai : Nat → ClassId} {A : Nat → Prop} {cc : ByteArray} {nL f L kc ks : Nat} {sa : Nat → Nat} {tl : va_W} {v : MS} {k : Int32} (hC : mo_C p R s m args meth c G ai A RX0 cc nL f L kc ks) (h0 : mo_S0 s0 b0) (hZ : mo_Z s0 A s) (hI : mo_I G A s.heap (st_W ai sa v tl) H locs) (hj : gi k 4 = true) (hdg : decode cc pc = .ok (.getfield 283, 3)) (kk : W p l e R s m args below meth c H locs cells slots Q (F0 m (pc + 3) ls (.int (v (6 + k.toNatClampNeg) 2) :: rest))) : W p l e R s m args below meth c H locs cells slots Q (F0 m pc ls (.ref (sa (10 + k.toNatClampNeg)) :: rest)) := by
  obtain ⟨j, hj1, -, hc⟩ := gi_nI (by decide) hj
  rw [hc] at kk ⊢
  exact va_getN (D := G) (ci := 3) (C := RX2) (T := TX2) (N := 5) hC.1 hC.2.1 hC.2.2.2.2.1 in_X2 hC.2.2.2.1 hC.2.2.2.2.2.2.1 hI.1 (7 + j) (st_hg j hj1) rfl 2 (by decide) (mo_nF h0 hZ q253) (fun _ h9 => h9) rfl hdg kk
theorem st_X0_p_gard_bamboo {p : Program} {l : Launch} {e : Env} {R : Room} {s s0 : State} {b0 : Addr} {m : MethodId} {args : Array Value} {below : List Frame} {meth : Method} {c : Code} {H : Heap} {locs : List Loc} {cells slots : Nat} {Q : State → Prop} {pc : Nat} {ls : Array Slot} {rest : List Value} {G : va_G} {ai : Nat → ClassId} {A : Nat → Prop} {cc : ByteArray} {nL f L kc ks : Nat} {sa : Nat → Nat} {tl : va_W} {v : MS} {k x : Int32} {z1 : MS} (hC : mo_C p R s m args meth c G ai A RX0 cc nL f L kc ks) (h0 : mo_S0 s0 b0) (hZ : mo_Z s0 A s) (hI : mo_I G A s.heap (st_W ai sa v tl) H locs) (hj : gi k 4 = true) (hM : z1 = rup v (6 + k.toNatClampNeg) (upd (v (6 + k.toNatClampNeg)) 2 x)) (hdg : decode cc pc = .ok (.putfield 283, 3)) (kk : ∀ (H1 : Heap) (locs1 : List Loc), mo_I G A s.heap (st_W ai sa z1 tl) H1 locs1 → W p l e R s m args below meth c H1 locs1 cells slots Q (F0 m (pc + 3) ls (rest))) : W p l e R s m args below meth c H locs cells slots Q (F0 m pc ls (.int x :: .ref (sa (10 + k.toNatClampNeg)) :: rest)) := by
  subst z1
  obtain ⟨j, hj1, -, hc⟩ := gi_nI (by decide) hj
  rw [hc] at kk ⊢
  refine va_putN (D := G) (ci := 3) (v := .int x) (ty := .int) (C := RX2) (T := TX2) (N := 5) hC.1 hC.2.1 hC.2.2.2.2.1 in_X2 tyX2 tyX2_ok nmX2 hC.2.2.2.1 hC.2.2.2.2.2.2.1 hI.1 hI.2.1 hI.2.2 (7 + j) (st_hg j hj1) rfl 2 (by decide) (mo_nF h0 hZ q253) (fun _ h9 => h9) rfl (by decide +kernel) rfl rfl (Nat.le_of_ble_eq_true rfl) hdg (fun H locs hP hD hS => ?_)
  rw [st_sg (by decide) j hj1] at hP hD
  exact kk H locs ⟨hP, hD, hS⟩
theorem st_X0_g_gard_swept {p : Program} {l : Launch} {e : Env} {R : Room} {s s0 : State} {b0 : Addr} {m : MethodId} {args : Array Value} {below : List Frame} {meth : Method} {c : Code} {H : Heap} {locs : List Loc} {cells slots : Nat} {Q : State → Prop} {pc : Nat} {ls : Array Slot} {rest : List Value} {G : va_G} {ai : Nat → ClassId} {A : Nat → Prop} {cc : ByteArray} {nL f L kc ks : Nat} {sa : Nat → Nat} {tl : va_W} {v : MS} {k : Int32} (hC : mo_C p R s m args meth c G ai A RX0 cc nL f L kc ks) (h0 : mo_S0 s0 b0) (hZ : mo_Z s0 A s) (hI : mo_I G A s.heap (st_W ai sa v tl) H locs) (hj : gi k 4 = true) (hdg : decode cc pc = .ok (.getfield 286, 3)) (kk : W p l e R s m args below meth c H locs cells slots Q (F0 m (pc + 3) ls (.int (v (6 + k.toNatClampNeg) 3) :: rest))) : W p l e R s m args below meth c H locs cells slots Q (F0 m pc ls (.ref (sa (10 + k.toNatClampNeg)) :: rest)) := by
  obtain ⟨j, hj1, -, hc⟩ := gi_nI (by decide) hj
  rw [hc] at kk ⊢
  exact va_getN (D := G) (ci := 3) (C := RX2) (T := TX2) (N := 5) hC.1 hC.2.1 hC.2.2.2.2.1 in_X2 hC.2.2.2.1 hC.2.2.2.2.2.2.1 hI.1 (7 + j) (st_hg j hj1) rfl 3 (by decide) (mo_nF h0 hZ q255) (fun _ h9 => h9) rfl hdg kk
theorem st_X0_p_gard_swept {p : Program} {l : Launch} {e : Env} {R : Room} {s s0 : State} {b0 : Addr} {m : MethodId} {args : Array Value} {below : List Frame} {meth : Method} {c : Code} {H : Heap} {locs : List Loc} {cells slots : Nat} {Q : State → Prop} {pc : Nat} {ls : Array Slot} {rest : List Value} {G : va_G} {ai : Nat → ClassId} {A : Nat → Prop} {cc : ByteArray} {nL f L kc ks : Nat} {sa : Nat → Nat} {tl : va_W} {v : MS} {k x : Int32} {z1 : MS} (hC : mo_C p R s m args meth c G ai A RX0 cc nL f L kc ks) (h0 : mo_S0 s0 b0) (hZ : mo_Z s0 A s) (hI : mo_I G A s.heap (st_W ai sa v tl) H locs) (hj : gi k 4 = true) (hM : z1 = rup v (6 + k.toNatClampNeg) (upd (v (6 + k.toNatClampNeg)) 3 x)) (hdg : decode cc pc = .ok (.putfield 286, 3)) (kk : ∀ (H1 : Heap) (locs1 : List Loc), mo_I G A s.heap (st_W ai sa z1 tl) H1 locs1 → W p l e R s m args below meth c H1 locs1 cells slots Q (F0 m (pc + 3) ls (rest))) : W p l e R s m args below meth c H locs cells slots Q (F0 m pc ls (.int x :: .ref (sa (10 + k.toNatClampNeg)) :: rest)) := by
  subst z1
  obtain ⟨j, hj1, -, hc⟩ := gi_nI (by decide) hj
  rw [hc] at kk ⊢
  refine va_putN (D := G) (ci := 3) (v := .int x) (ty := .int) (C := RX2) (T := TX2) (N := 5) hC.1 hC.2.1 hC.2.2.2.2.1 in_X2 tyX2 tyX2_ok nmX2 hC.2.2.2.1 hC.2.2.2.2.2.2.1 hI.1 hI.2.1 hI.2.2 (7 + j) (st_hg j hj1) rfl 3 (by decide) (mo_nF h0 hZ q255) (fun _ h9 => h9) rfl (by decide +kernel) rfl rfl (Nat.le_of_ble_eq_true rfl) hdg (fun H locs hP hD hS => ?_)
  rw [st_sg (by decide) j hj1] at hP hD
  exact kk H locs ⟨hP, hD, hS⟩
theorem st_X0_g_st_trapsLeft {p : Program} {l : Launch} {e : Env} {R : Room} {s s0 : State} {b0 : Addr} {m : MethodId} {args : Array Value} {below : List Frame} {meth : Method} {c : Code} {H : Heap} {locs : List Loc} {cells slots : Nat} {Q : State → Prop} {pc : Nat} {ls : Array Slot} {rest : List Value} {G : va_G} {ai : Nat → ClassId} {A : Nat → Prop} {cc : ByteArray} {nL f L kc ks : Nat} {sa : Nat → Nat} {tl : va_W} {v : MS} (hC : mo_C p R s m args meth c G ai A RX0 cc nL f L kc ks) (h0 : mo_S0 s0 b0) (hZ : mo_Z s0 A s) (hI : mo_I G A s.heap (st_W ai sa v tl) H locs) (hdg : decode cc pc = .ok (.getfield 295, 3)) (kk : W p l e R s m args below meth c H locs cells slots Q (F0 m (pc + 3) ls (.int (v 0 11) :: rest))) : W p l e R s m args below meth c H locs cells slots Q (F0 m pc ls (.ref (sa 0) :: rest)) :=
  va_getN (D := G) (ci := 2) (C := RX1) (T := TX1) (N := 19) hC.1 hC.2.1 hC.2.2.2.2.1 in_X1 hC.2.2.2.1 hC.2.2.2.2.2.2.1 hI.1 0 rfl rfl 11 (by decide) (mo_nF h0 hZ q325) (fun _ h9 => h9) rfl hdg kk
theorem st_X0_g_st_traps {p : Program} {l : Launch} {e : Env} {R : Room} {s s0 : State} {b0 : Addr} {m : MethodId} {args : Array Value} {below : List Frame} {meth : Method} {c : Code} {H : Heap} {locs : List Loc} {cells slots : Nat} {Q : State → Prop} {pc : Nat} {ls : Array Slot} {rest : List Value} {G : va_G} {ai : Nat → ClassId} {A : Nat → Prop} {cc : ByteArray} {nL f L kc ks : Nat} {sa : Nat → Nat} {tl : va_W} {v : MS} (hC : mo_C p R s m args meth c G ai A RX0 cc nL f L kc ks) (h0 : mo_S0 s0 b0) (hZ : mo_Z s0 A s) (hI : mo_I G A s.heap (st_W ai sa v tl) H locs) (hdg : decode cc pc = .ok (.getfield 209, 3)) (kk : W p l e R s m args below meth c H locs cells slots Q (F0 m (pc + 3) ls (.ref (sa 5) :: rest))) : W p l e R s m args below meth c H locs cells slots Q (F0 m pc ls (.ref (sa 0) :: rest)) :=
  va_getN (D := G) (ci := 2) (C := RX1) (T := TX1) (N := 19) hC.1 hC.2.1 hC.2.2.2.2.1 in_X1 hC.2.2.2.1 hC.2.2.2.2.2.2.1 hI.1 0 rfl rfl 4 (by decide) (mo_nF h0 hZ q311) (fun _ h9 => h9) rfl hdg kk
theorem st_X0_traps_set {p : Program} {l : Launch} {e : Env} {R : Room} {s s0 : State} {b0 : Addr} {m : MethodId} {args : Array Value} {below : List Frame} {meth : Method} {c : Code} {H : Heap} {locs : List Loc} {cells slots : Nat} {Q : State → Prop} {pc : Nat} {ls : Array Slot} {rest : List Value} {G : va_G} {ai : Nat → ClassId} {A : Nat → Prop} {cc : ByteArray} {nL f L kc ks : Nat} {sa : Nat → Nat} {tl : va_W} {v : MS} {q : Int32} {z1 : MS} (hC : mo_C p R s m args meth c G ai A RX0 cc nL f L kc ks) (h0 : mo_S0 s0 b0) (hZ : mo_Z s0 A s) (hI : mo_I G A s.heap (st_W ai sa v tl) H locs) (hg : gi q 30 = true) (hM : z1 = rup v 5 (upd (v 5) q.toNatClampNeg 1)) (hf : 2 + 1 ≤ f) (hL : 8 + (3 + 11) + 44 ≤ L) (hsz : ls.size = nL) (hW : (rest.map fun v => v.category).sum ≤ 8) (hdg : decode cc pc = .ok (.invokevirtual 218, 3)) (kk : ∀ (H1 : Heap) (locs1 : List Loc), mo_I G A s.heap (st_W ai sa z1 tl) H1 locs1 → W p l e R s m args below meth c H1 locs1 cells slots Q (F0 m (pc + 3) ls (rest))) (hc0 : cells ≤ kc := by first | exact Nat.zero_le _ | exact Nat.le_of_ble_eq_true rfl | assumption | omega) (hs0 : slots ≤ ks := by first | exact Nat.zero_le _ | exact Nat.le_of_ble_eq_true rfl | assumption | omega) : W p l e R s m args below meth c H locs cells slots Q (F0 m pc ls (.int q :: .ref (sa 5) :: rest)) := by
  have hI' := mo_Iperm (st_p5 (ai := ai) (sa := sa) (c := v) (tl := tl)) hI
  subst z1
  exact gz_usev0 hC.2.2.2.2.2.2.2.1 hI' (va_runV (As := [.int q]) (rest := rest) ⟨hC.1, hC.2.1, hC.2.2.1, hC.2.2.2.1, hC.2.2.2.2.1⟩ (wa_set h0 hg H.size) (cwV 1 hC.2.2.2.2.1 (lw_V q921 q922 q923 q117 q924) rfl rfl rfl (by decide +kernel) ⟨Nat.le_trans hf hC.2.2.2.2.2.2.2.2.1, Nat.le_trans hL hC.2.2.2.2.2.2.2.2.2.1⟩) ⟨gz_blind, (va_recv hC.2.2.2.2.2.2.1 hI'.1 (ci := 13) (q0 := 0) rfl rfl), gz_pre0 hC hZ hI'⟩ rfl rfl hsz rfl (lv_room hW) hdg ⟨Nat.le_trans hc0 hC.2.2.2.2.2.2.2.2.2.2.1, Nat.le_trans hs0 hC.2.2.2.2.2.2.2.2.2.2.2⟩) (fun u H1 locs1 hp hI1 => by cases hp; exact kk H1 locs1 (mo_Iperm ((st_p5 (ai := ai) (sa := sa) (c := (rup v 5 (upd (v 5) q.toNatClampNeg 1))) (tl := tl))).symm hI1))
theorem st_X0_p_st_trapsLeft {p : Program} {l : Launch} {e : Env} {R : Room} {s s0 : State} {b0 : Addr} {m : MethodId} {args : Array Value} {below : List Frame} {meth : Method} {c : Code} {H : Heap} {locs : List Loc} {cells slots : Nat} {Q : State → Prop} {pc : Nat} {ls : Array Slot} {rest : List Value} {G : va_G} {ai : Nat → ClassId} {A : Nat → Prop} {cc : ByteArray} {nL f L kc ks : Nat} {sa : Nat → Nat} {tl : va_W} {v : MS} {x : Int32} {z1 : MS} (hC : mo_C p R s m args meth c G ai A RX0 cc nL f L kc ks) (h0 : mo_S0 s0 b0) (hZ : mo_Z s0 A s) (hI : mo_I G A s.heap (st_W ai sa v tl) H locs) (hM : z1 = rup v 0 (upd (v 0) 11 x)) (hdg : decode cc pc = .ok (.putfield 295, 3)) (kk : ∀ (H1 : Heap) (locs1 : List Loc), mo_I G A s.heap (st_W ai sa z1 tl) H1 locs1 → W p l e R s m args below meth c H1 locs1 cells slots Q (F0 m (pc + 3) ls (rest))) : W p l e R s m args below meth c H locs cells slots Q (F0 m pc ls (.int x :: .ref (sa 0) :: rest)) := by
  subst z1
  exact va_putN (D := G) (ci := 2) (v := .int x) (ty := .int) (C := RX1) (T := TX1) (N := 19) hC.1 hC.2.1 hC.2.2.2.2.1 in_X1 tyX1 tyX1_ok nmX1 hC.2.2.2.1 hC.2.2.2.2.2.2.1 hI.1 hI.2.1 hI.2.2 0 rfl rfl 11 (by decide) (mo_nF h0 hZ q325) (fun _ h9 => h9) rfl (by decide +kernel) rfl rfl (Nat.le_of_ble_eq_true rfl) hdg (fun H locs hP hD hS => kk H locs ⟨hP, hD, hS⟩)
theorem st_X0_traps_get {p : Program} {l : Launch} {e : Env} {R : Room} {s s0 : State} {b0 : Addr} {m : MethodId} {args : Array Value} {below : List Frame} {meth : Method} {c : Code} {H : Heap} {locs : List Loc} {cells slots : Nat} {Q : State → Prop} {pc : Nat} {ls : Array Slot} {rest : List Value} {G : va_G} {ai : Nat → ClassId} {A : Nat → Prop} {cc : ByteArray} {nL f L kc ks : Nat} {sa : Nat → Nat} {tl : va_W} {v : MS} {q r1 : Int32} (hC : mo_C p R s m args meth c G ai A RX0 cc nL f L kc ks) (h0 : mo_S0 s0 b0) (hZ : mo_Z s0 A s) (hI : mo_I G A s.heap (st_W ai sa v tl) H locs) (hz : bs_get (v 5) q = some r1) (hf : 1 + 1 ≤ f) (hL : 8 + (3 + 11) + 20 ≤ L) (hsz : ls.size = nL) (hW : (rest.map fun v => v.category).sum ≤ 8) (hdg : decode cc pc = .ok (.invokevirtual 148, 3)) (kk : W p l e R s m args below meth c H locs cells slots Q (F0 m (pc + 3) ls (.int r1 :: rest))) (hc0 : cells ≤ kc := by first | exact Nat.zero_le _ | exact Nat.le_of_ble_eq_true rfl | assumption | omega) (hs0 : slots ≤ ks := by first | exact Nat.zero_le _ | exact Nat.le_of_ble_eq_true rfl | assumption | omega) : W p l e R s m args below meth c H locs cells slots Q (F0 m pc ls (.int q :: .ref (sa 5) :: rest)) := by
  have hI' := mo_Iperm (st_p5 (ai := ai) (sa := sa) (c := v) (tl := tl)) hI
  exact rd_use (va_runV (As := [.int q]) (rest := rest) ⟨hC.1, hC.2.1, hC.2.2.1, hC.2.2.2.1, hC.2.2.2.2.1⟩ (wa_get h0 hz H.size) (cwV 1 hC.2.2.2.2.1 (lw_V q860 q861 q862 q117 q863) rfl rfl rfl (by decide +kernel) ⟨Nat.le_trans hf hC.2.2.2.2.2.2.2.2.1, Nat.le_trans hL hC.2.2.2.2.2.2.2.2.2.1⟩) ⟨gz_blind, (va_recv hC.2.2.2.2.2.2.1 hI'.1 (ci := 13) (q0 := 0) rfl rfl), gz_pre0 hC hZ hI'⟩ rfl rfl hsz rfl (lv_room hW) hdg ⟨Nat.le_trans hc0 hC.2.2.2.2.2.2.2.2.2.2.1, Nat.le_trans hs0 hC.2.2.2.2.2.2.2.2.2.2.2⟩) kk
theorem st_X0_g_st_moleMany {p : Program} {l : Launch} {e : Env} {R : Room} {s s0 : State} {b0 : Addr} {m : MethodId} {args : Array Value} {below : List Frame} {meth : Method} {c : Code} {H : Heap} {locs : List Loc} {cells slots : Nat} {Q : State → Prop} {pc : Nat} {ls : Array Slot} {rest : List Value} {G : va_G} {ai : Nat → ClassId} {A : Nat → Prop} {cc : ByteArray} {nL f L kc ks : Nat} {sa : Nat → Nat} {tl : va_W} {v : MS} (hC : mo_C p R s m args meth c G ai A RX0 cc nL f L kc ks) (h0 : mo_S0 s0 b0) (hZ : mo_Z s0 A s) (hI : mo_I G A s.heap (st_W ai sa v tl) H locs) (hdg : decode cc pc = .ok (.getfield 191, 3)) (kk : W p l e R s m args below meth c H locs cells slots Q (F0 m (pc + 3) ls (.int (v 0 8) :: rest))) : W p l e R s m args below meth c H locs cells slots Q (F0 m pc ls (.ref (sa 0) :: rest)) :=
  va_getN (D := G) (ci := 2) (C := RX1) (T := TX1) (N := 19) hC.1 hC.2.1 hC.2.2.2.2.1 in_X1 hC.2.2.2.1 hC.2.2.2.2.2.2.1 hI.1 0 rfl rfl 8 (by decide) (mo_nF h0 hZ q319) (fun _ h9 => h9) rfl hdg kk
theorem st_X0_g_st_moles {p : Program} {l : Launch} {e : Env} {R : Room} {s s0 : State} {b0 : Addr} {m : MethodId} {args : Array Value} {below : List Frame} {meth : Method} {c : Code} {H : Heap} {locs : List Loc} {cells slots : Nat} {Q : State → Prop} {pc : Nat} {ls : Array Slot} {rest : List Value} {G : va_G} {ai : Nat → ClassId} {A : Nat → Prop} {cc : ByteArray} {nL f L kc ks : Nat} {sa : Nat → Nat} {tl : va_W} {v : MS} (hC : mo_C p R s m args meth c G ai A RX0 cc nL f L kc ks) (h0 : mo_S0 s0 b0) (hZ : mo_Z s0 A s) (hI : mo_I G A s.heap (st_W ai sa v tl) H locs) (hdg : decode cc pc = .ok (.getfield 307, 3)) (kk : W p l e R s m args below meth c H locs cells slots Q (F0 m (pc + 3) ls (.ref (sa 7) :: rest))) : W p l e R s m args below meth c H locs cells slots Q (F0 m pc ls (.ref (sa 0) :: rest)) :=
  va_getN (D := G) (ci := 2) (C := RX1) (T := TX1) (N := 19) hC.1 hC.2.1 hC.2.2.2.2.1 in_X1 hC.2.2.2.1 hC.2.2.2.2.2.2.1 hI.1 0 rfl rfl 7 (by decide) (mo_nF h0 hZ q317) (fun _ h9 => h9) rfl hdg kk
theorem st_X0_p_st_moleMany {p : Program} {l : Launch} {e : Env} {R : Room} {s s0 : State} {b0 : Addr} {m : MethodId} {args : Array Value} {below : List Frame} {meth : Method} {c : Code} {H : Heap} {locs : List Loc} {cells slots : Nat} {Q : State → Prop} {pc : Nat} {ls : Array Slot} {rest : List Value} {G : va_G} {ai : Nat → ClassId} {A : Nat → Prop} {cc : ByteArray} {nL f L kc ks : Nat} {sa : Nat → Nat} {tl : va_W} {v : MS} {x : Int32} {z1 : MS} (hC : mo_C p R s m args meth c G ai A RX0 cc nL f L kc ks) (h0 : mo_S0 s0 b0) (hZ : mo_Z s0 A s) (hI : mo_I G A s.heap (st_W ai sa v tl) H locs) (hM : z1 = rup v 0 (upd (v 0) 8 x)) (hdg : decode cc pc = .ok (.putfield 191, 3)) (kk : ∀ (H1 : Heap) (locs1 : List Loc), mo_I G A s.heap (st_W ai sa z1 tl) H1 locs1 → W p l e R s m args below meth c H1 locs1 cells slots Q (F0 m (pc + 3) ls (rest))) : W p l e R s m args below meth c H locs cells slots Q (F0 m pc ls (.int x :: .ref (sa 0) :: rest)) := by
  subst z1
  exact va_putN (D := G) (ci := 2) (v := .int x) (ty := .int) (C := RX1) (T := TX1) (N := 19) hC.1 hC.2.1 hC.2.2.2.2.1 in_X1 tyX1 tyX1_ok nmX1 hC.2.2.2.1 hC.2.2.2.2.2.2.1 hI.1 hI.2.1 hI.2.2 0 rfl rfl 8 (by decide) (mo_nF h0 hZ q319) (fun _ h9 => h9) rfl (by decide +kernel) rfl rfl (Nat.le_of_ble_eq_true rfl) hdg (fun H locs hP hD hS => kk H locs ⟨hP, hD, hS⟩)
theorem st_X0_g_st_pairs {p : Program} {l : Launch} {e : Env} {R : Room} {s s0 : State} {b0 : Addr} {m : MethodId} {args : Array Value} {below : List Frame} {meth : Method} {c : Code} {H : Heap} {locs : List Loc} {cells slots : Nat} {Q : State → Prop} {pc : Nat} {ls : Array Slot} {rest : List Value} {G : va_G} {ai : Nat → ClassId} {A : Nat → Prop} {cc : ByteArray} {nL f L kc ks : Nat} {sa : Nat → Nat} {tl : va_W} {v : MS} (hC : mo_C p R s m args meth c G ai A RX0 cc nL f L kc ks) (h0 : mo_S0 s0 b0) (hZ : mo_Z s0 A s) (hI : mo_I G A s.heap (st_W ai sa v tl) H locs) (hdg : decode cc pc = .ok (.getfield 324, 3)) (kk : W p l e R s m args below meth c H locs cells slots Q (F0 m (pc + 3) ls (.ref (sa 8) :: rest))) : W p l e R s m args below meth c H locs cells slots Q (F0 m pc ls (.ref (sa 0) :: rest)) :=
  va_getN (D := G) (ci := 2) (C := RX1) (T := TX1) (N := 19) hC.1 hC.2.1 hC.2.2.2.2.1 in_X1 hC.2.2.2.1 hC.2.2.2.2.2.2.1 hI.1 0 rfl rfl 9 (by decide) (mo_nF h0 hZ q321) (fun _ h9 => h9) rfl hdg kk
theorem st_l_pairs {own : String} {p : Program} {l : Launch} {e : Env} {R : Room} {s : State} {m : MethodId} {args : Array Value} {below : List Frame} {meth : Method} {c : Code} {H : Heap} {locs : List Loc} {cells slots : Nat} {Q : State → Prop} {pc : Nat} {ls : Array Slot} {rest : List Value} {G : va_G} {ai : Nat → ClassId} {A : Nat → Prop} {cc : ByteArray} {nL f L kc ks : Nat} {sa : Nat → Nat} {tl : va_W} {v : MS} {j : Int32} (hC : mo_C p R s m args meth c G ai A own cc nL f L kc ks) (hI : mo_I G A s.heap (st_W ai sa v tl) H locs) (hg : gi j 5 = true) (hdg : decode cc pc = .ok (.iaload, 1)) (kk : W p l e R s m args below meth c H locs cells slots Q (F0 m (pc + 1) ls (.int (v 13 j.toNatClampNeg) :: rest))) : W p l e R s m args below meth c H locs cells slots Q (F0 m pc ls (.int j :: .ref (sa 8) :: rest)) :=
  va_iald hC.1 hC.2.1 hC.2.2.2.2.2.2.1 hI.1 4 0 rfl rfl (gi_in hg) hdg kk
theorem st_X0_g_gard_hours {p : Program} {l : Launch} {e : Env} {R : Room} {s s0 : State} {b0 : Addr} {m : MethodId} {args : Array Value} {below : List Frame} {meth : Method} {c : Code} {H : Heap} {locs : List Loc} {cells slots : Nat} {Q : State → Prop} {pc : Nat} {ls : Array Slot} {rest : List Value} {G : va_G} {ai : Nat → ClassId} {A : Nat → Prop} {cc : ByteArray} {nL f L kc ks : Nat} {sa : Nat → Nat} {tl : va_W} {v : MS} {k : Int32} (hC : mo_C p R s m args meth c G ai A RX0 cc nL f L kc ks) (h0 : mo_S0 s0 b0) (hZ : mo_Z s0 A s) (hI : mo_I G A s.heap (st_W ai sa v tl) H locs) (hj : gi k 4 = true) (hdg : decode cc pc = .ok (.getfield 510, 3)) (kk : W p l e R s m args below meth c H locs cells slots Q (F0 m (pc + 3) ls (.int (v (6 + k.toNatClampNeg) 1) :: rest))) : W p l e R s m args below meth c H locs cells slots Q (F0 m pc ls (.ref (sa (10 + k.toNatClampNeg)) :: rest)) := by
  obtain ⟨j, hj1, -, hc⟩ := gi_nI (by decide) hj
  rw [hc] at kk ⊢
  exact va_getN (D := G) (ci := 3) (C := RX2) (T := TX2) (N := 5) hC.1 hC.2.1 hC.2.2.2.2.1 in_X2 hC.2.2.2.1 hC.2.2.2.2.2.2.1 hI.1 (7 + j) (st_hg j hj1) rfl 1 (by decide) (mo_nF h0 hZ q251) (fun _ h9 => h9) rfl hdg kk
theorem st_X0_g_mole_took {p : Program} {l : Launch} {e : Env} {R : Room} {s s0 : State} {b0 : Addr} {m : MethodId} {args : Array Value} {below : List Frame} {meth : Method} {c : Code} {H : Heap} {locs : List Loc} {cells slots : Nat} {Q : State → Prop} {pc : Nat} {ls : Array Slot} {rest : List Value} {G : va_G} {ai : Nat → ClassId} {A : Nat → Prop} {cc : ByteArray} {nL f L kc ks : Nat} {sa : Nat → Nat} {tl : va_W} {v : MS} {k : Int32} (hC : mo_C p R s m args meth c G ai A RX0 cc nL f L kc ks) (h0 : mo_S0 s0 b0) (hZ : mo_Z s0 A s) (hI : mo_I G A s.heap (st_W ai sa v tl) H locs) (hj : gi k 3 = true) (hdg : decode cc pc = .ok (.getfield 518, 3)) (kk : W p l e R s m args below meth c H locs cells slots Q (F0 m (pc + 3) ls (.int (v (10 + k.toNatClampNeg) 2) :: rest))) : W p l e R s m args below meth c H locs cells slots Q (F0 m pc ls (.ref (sa (14 + k.toNatClampNeg)) :: rest)) := by
  obtain ⟨j, hj1, -, hc⟩ := gi_nI (by decide) hj
  rw [hc] at kk ⊢
  exact va_getN (D := G) (ci := 4) (C := RX3) (T := TX3) (N := 3) hC.1 hC.2.1 hC.2.2.2.2.1 in_X3 hC.2.2.2.1 hC.2.2.2.2.2.2.1 hI.1 (11 + j) (st_hm j hj1) rfl 2 (by decide) (mo_nF h0 hZ q282) (fun _ h9 => h9) rfl hdg kk
theorem st_X0_g_mole_isCaught {p : Program} {l : Launch} {e : Env} {R : Room} {s s0 : State} {b0 : Addr} {m : MethodId} {args : Array Value} {below : List Frame} {meth : Method} {c : Code} {H : Heap} {locs : List Loc} {cells slots : Nat} {Q : State → Prop} {pc : Nat} {ls : Array Slot} {rest : List Value} {G : va_G} {ai : Nat → ClassId} {A : Nat → Prop} {cc : ByteArray} {nL f L kc ks : Nat} {sa : Nat → Nat} {tl : va_W} {v : MS} {k : Int32} (hC : mo_C p R s m args meth c G ai A RX0 cc nL f L kc ks) (h0 : mo_S0 s0 b0) (hZ : mo_Z s0 A s) (hI : mo_I G A s.heap (st_W ai sa v tl) H locs) (hj : gi k 3 = true) (hdg : decode cc pc = .ok (.getfield 514, 3)) (kk : W p l e R s m args below meth c H locs cells slots Q (F0 m (pc + 3) ls (.int (v (10 + k.toNatClampNeg) 1) :: rest))) : W p l e R s m args below meth c H locs cells slots Q (F0 m pc ls (.ref (sa (14 + k.toNatClampNeg)) :: rest)) := by
  obtain ⟨j, hj1, -, hc⟩ := gi_nI (by decide) hj
  rw [hc] at kk ⊢
  exact va_getN (D := G) (ci := 4) (C := RX3) (T := TX3) (N := 3) hC.1 hC.2.1 hC.2.2.2.2.1 in_X3 hC.2.2.2.1 hC.2.2.2.2.2.2.1 hI.1 (11 + j) (st_hm j hj1) rfl 1 (by decide) (mo_nF h0 hZ q279) (fun _ h9 => h9) rfl hdg kk
theorem st_X0_g_mole_square {p : Program} {l : Launch} {e : Env} {R : Room} {s s0 : State} {b0 : Addr} {m : MethodId} {args : Array Value} {below : List Frame} {meth : Method} {c : Code} {H : Heap} {locs : List Loc} {cells slots : Nat} {Q : State → Prop} {pc : Nat} {ls : Array Slot} {rest : List Value} {G : va_G} {ai : Nat → ClassId} {A : Nat → Prop} {cc : ByteArray} {nL f L kc ks : Nat} {sa : Nat → Nat} {tl : va_W} {v : MS} {k : Int32} (hC : mo_C p R s m args meth c G ai A RX0 cc nL f L kc ks) (h0 : mo_S0 s0 b0) (hZ : mo_Z s0 A s) (hI : mo_I G A s.heap (st_W ai sa v tl) H locs) (hj : gi k 3 = true) (hdg : decode cc pc = .ok (.getfield 513, 3)) (kk : W p l e R s m args below meth c H locs cells slots Q (F0 m (pc + 3) ls (.int (v (10 + k.toNatClampNeg) 0) :: rest))) : W p l e R s m args below meth c H locs cells slots Q (F0 m pc ls (.ref (sa (14 + k.toNatClampNeg)) :: rest)) := by
  obtain ⟨j, hj1, -, hc⟩ := gi_nI (by decide) hj
  rw [hc] at kk ⊢
  exact va_getN (D := G) (ci := 4) (C := RX3) (T := TX3) (N := 3) hC.1 hC.2.1 hC.2.2.2.2.1 in_X3 hC.2.2.2.1 hC.2.2.2.2.2.2.1 hI.1 (11 + j) (st_hm j hj1) rfl 0 (by decide) (mo_nF h0 hZ q276) (fun _ h9 => h9) rfl hdg kk
theorem st_X0_g_st_grown {p : Program} {l : Launch} {e : Env} {R : Room} {s s0 : State} {b0 : Addr} {m : MethodId} {args : Array Value} {below : List Frame} {meth : Method} {c : Code} {H : Heap} {locs : List Loc} {cells slots : Nat} {Q : State → Prop} {pc : Nat} {ls : Array Slot} {rest : List Value} {G : va_G} {ai : Nat → ClassId} {A : Nat → Prop} {cc : ByteArray} {nL f L kc ks : Nat} {sa : Nat → Nat} {tl : va_W} {v : MS} (hC : mo_C p R s m args meth c G ai A RX0 cc nL f L kc ks) (h0 : mo_S0 s0 b0) (hZ : mo_Z s0 A s) (hI : mo_I G A s.heap (st_W ai sa v tl) H locs) (hdg : decode cc pc = .ok (.getfield 540, 3)) (kk : W p l e R s m args below meth c H locs cells slots Q (F0 m (pc + 3) ls (.int (v 0 14) :: rest))) : W p l e R s m args below meth c H locs cells slots Q (F0 m pc ls (.ref (sa 0) :: rest)) :=
  va_getN (D := G) (ci := 2) (C := RX1) (T := TX1) (N := 19) hC.1 hC.2.1 hC.2.2.2.2.1 in_X1 hC.2.2.2.1 hC.2.2.2.2.2.2.1 hI.1 0 rfl rfl 14 (by decide) (mo_nF h0 hZ q331) (fun _ h9 => h9) rfl hdg kk
theorem st_X0_g_st_lost {p : Program} {l : Launch} {e : Env} {R : Room} {s s0 : State} {b0 : Addr} {m : MethodId} {args : Array Value} {below : List Frame} {meth : Method} {c : Code} {H : Heap} {locs : List Loc} {cells slots : Nat} {Q : State → Prop} {pc : Nat} {ls : Array Slot} {rest : List Value} {G : va_G} {ai : Nat → ClassId} {A : Nat → Prop} {cc : ByteArray} {nL f L kc ks : Nat} {sa : Nat → Nat} {tl : va_W} {v : MS} (hC : mo_C p R s m args meth c G ai A RX0 cc nL f L kc ks) (h0 : mo_S0 s0 b0) (hZ : mo_Z s0 A s) (hI : mo_I G A s.heap (st_W ai sa v tl) H locs) (hdg : decode cc pc = .ok (.getfield 543, 3)) (kk : W p l e R s m args below meth c H locs cells slots Q (F0 m (pc + 3) ls (.int (v 0 15) :: rest))) : W p l e R s m args below meth c H locs cells slots Q (F0 m pc ls (.ref (sa 0) :: rest)) :=
  va_getN (D := G) (ci := 2) (C := RX1) (T := TX1) (N := 19) hC.1 hC.2.1 hC.2.2.2.2.1 in_X1 hC.2.2.2.1 hC.2.2.2.2.2.2.1 hI.1 0 rfl rfl 15 (by decide) (mo_nF h0 hZ q333) (fun _ h9 => h9) rfl hdg kk
theorem ml_X0_g_ml_faultAt {p : Program} {l : Launch} {e : Env} {R : Room} {s s0 : State} {b0 : Addr} {m : MethodId} {args : Array Value} {below : List Frame} {meth : Method} {c : Code} {H : Heap} {locs : List Loc} {cells slots : Nat} {Q : State → Prop} {pc : Nat} {ls : Array Slot} {rest : List Value} {G : va_G} {ai : Nat → ClassId} {A : Nat → Prop} {cc : ByteArray} {nL f L kc ks : Nat} {sa ma : Nat → Nat} {rf : Value} {tl : va_W} {v : MS} {ml : MS} (hC : mo_C p R s m args meth c G ai A RX0 cc nL f L kc ks) (h0 : mo_S0 s0 b0) (hZ : mo_Z s0 A s) (hI : mo_I G A s.heap (st_W ai sa v (ml_C ai s0 b0 sa ma rf ml ++ tl)) H locs) (hdg : decode cc pc = .ok (.getfield 89, 3)) (kk : W p l e R s m args below meth c H locs cells slots Q (F0 m (pc + 3) ls (.int (ml 0 13) :: rest))) : W p l e R s m args below meth c H locs cells slots Q (F0 m pc ls (.ref (ma 0) :: rest)) :=
  va_get (D := G) (ci := 1) (C := RX0) (T := TX0) (N := 21) hC.1 hC.2.1 hC.2.2.2.2.1 in_X0 hC.2.2.2.1 hC.2.2.2.2.2.2.1 hI.1 18 rfl rfl 13 (by decide) (hC.2.2.2.2.1 _ q570) (fun _ h9 => h9) rfl hdg kk
def f_ml_doRain (v : MS) (ml : MS) (a1 : Int32) : Option ((MX × MS × MS)) := xg (f_want (p_within a1 0 5) (-2)) (fun z1 => (v, ml)) (fun r2 z1 => lt ((v 0 12)) (fun x2_6 => lt (rup v 0 (upd (v 0) 12 a1)) (fun v7 => some (mxO x2_6, (v7, ml)))))
set_option maxHeartbeats 4000000 in
theorem w_ml_doRain (l : Launch) (G : va_G) (ai : Nat → ClassId) {s0 : State} {b0 : Addr} (h0 : mo_S0 s0 b0) {sa ma : Nat → Nat} {rf : Value} {tl : va_W} (v : MS) (ml : MS) (a1 : Int32) (r0 : MX) (u0 : MS × MS) (hF : f_ml_doRain v ml a1 = some (r0, u0)) : xz_Met l G ai s0 yX0_doRain cX0_doRain 3 (some .int) ({ frames := 5, cells := 1, slots := 7, locals := 110 } : Room) [.ref (ma 0), .int a1] (st_W ai sa v (ml_C ai s0 b0 sa ma rf ml ++ tl)) (fun A => xq_i G ai (fun (_ : Nat → Nat) => (st_W ai sa u0.1 (ml_C ai s0 b0 sa ma rf u0.2 ++ tl))) r0 A) r0 (fun (_ : Nat → Nat) => (st_W ai sa u0.1 (ml_C ai s0 b0 sa ma rf u0.2 ++ tl))) 1 7 := by
  refine xz_body (Qc := fun A => xq_i G ai (fun (_ : Nat → Nat) => (st_W ai sa u0.1 (ml_C ai s0 b0 sa ma rf u0.2 ++ tl))) r0 A) (by decide) (Nat.le_of_ble_eq_true rfl) ?_
  intro p e s m args below meth c A ls hC hZ hr hI hl hxt
  have hx := hC.1
  have hb := hC.2.1
  have hl : lv_has ls 3 [(0, .ref (ma 0)), (1, .int a1)] := hl
  show W p l e _ s m args below meth c s.heap [] 0 0 (vy_MQ below (xq_i G ai (fun (_ : Nat → Nat) => (st_W ai sa u0.1 (ml_C ai s0 b0 sa ma rf u0.2 ++ tl))) r0 A) (xq_X G ai (fun (_ : Nat → Nat) => (st_W ai sa u0.1 (ml_C ai s0 b0 sa ma rf u0.2 ++ tl))) r0 A) args s 1 7 A) (F0 m 0 ls [])
  rw [f_ml_doRain] at hF
  refine lv_iload_n hx hb dX0_doRain_0 rfl (lv_at hl 1 rfl) ?_
  refine lv_iconst (v := 0) hx hb dX0_doRain_1 (by decide) ?_
  refine lv_iconst (v := 5) hx hb dX0_doRain_2 (by decide) ?_
  refine k_X0_within (mo_CN hC) (Nat.le_of_ble_eq_true rfl) (Nat.le_of_ble_eq_true rfl) hl.1 (Nat.le_of_ble_eq_true rfl) dX0_doRain_3 ?_
  refine lv_bipush (v := (-2)) hx hb dX0_doRain_6 (by decide) ?_
  rcases xg_some hF with ⟨r2, z1, hz4, hF⟩ | ⟨ex3, z1, hx5, hz4, hF⟩
  · refine k_X0_x_want hC h0 hZ hI hz4 (Nat.le_of_ble_eq_true rfl) (Nat.le_of_ble_eq_true rfl) hl.1 (Nat.le_of_ble_eq_true rfl) dX0_doRain_8 (fun H locs hI => ?_)
    refine lv_aload_n hx hb dX0_doRain_11 rfl (lv_at hl 0 rfl) ?_
    refine ml_X0_g_ml_now hC h0 hZ hI dX0_doRain_12 ?_
    refine st_X0_g_st_rain hC h0 hZ hI dX0_doRain_15 ?_
    obtain ⟨x2_6, hx2_6, hF⟩ := lt_some hF
    refine mo_ist (lv' := [(2, .int x2_6), (0, .ref (ma 0)), (1, .int a1)]) hx hb hx2_6 dX0_doRain_18 rfl hl (by decide) rfl (fun ls hl => ?_)
    refine lv_aload_n hx hb dX0_doRain_19 rfl (lv_at hl 1 rfl) ?_
    refine ml_X0_g_ml_now hC h0 hZ hI dX0_doRain_20 ?_
    refine lv_iload_n hx hb dX0_doRain_23 rfl (lv_at hl 2 rfl) ?_
    obtain ⟨v7, hv7, hF⟩ := lt_some hF
    refine st_X0_p_st_rain hC h0 hZ hI hv7 dX0_doRain_24 (fun H locs hI => ?_)
    refine lv_iload_n hx hb dX0_doRain_27 rfl (lv_at hl 0 rfl) ?_
    cases hF
    exact xz_iret (na := fun _ => 0) hC hr rfl hI rfl (by first | exact Nat.le_of_ble_eq_true rfl | omega) (by first | exact Nat.le_of_ble_eq_true rfl | omega) dX0_doRain_28
  · cases hF
    exact k_X0_x_want_x hC h0 hZ hI hz4 hx5 (Nat.le_of_ble_eq_true rfl) (Nat.le_of_ble_eq_true rfl) hl.1 (Nat.le_of_ble_eq_true rfl) dX0_doRain_8 (fun da H locs hI => xz_out (na := fun _ => 0) hC hxt hI hx5 (by first | exact Nat.le_of_ble_eq_true rfl | omega) (by first | exact Nat.le_of_ble_eq_true rfl | omega))
theorem k_X0_ml_doRain {p : Program} {l : Launch} {e : Env} {R : Room} {s s0 : State} {b0 : Addr} {m : MethodId} {args : Array Value} {below : List Frame} {meth : Method} {c : Code} {H : Heap} {locs : List Loc} {cells slots : Nat} {Q : State → Prop} {pc : Nat} {ls : Array Slot} {rest : List Value} {G : va_G} {ai : Nat → ClassId} {A : Nat → Prop} {cc : ByteArray} {nL f L kc ks : Nat} {sa ma : Nat → Nat} {rf : Value} {tl : va_W}  {v : MS} {ml : MS} {a1 : Int32} {r1 : Int32} {u1 : MS × MS}  (hC : mo_C p R s m args meth c G ai A RX0 cc nL f L kc ks) (h0 : mo_S0 s0 b0) (hZ : mo_Z s0 A s) (hI : mo_I G A s.heap (st_W ai sa v (ml_C ai s0 b0 sa ma rf ml ++ tl)) H locs) (hz : f_ml_doRain v ml a1 = some (mxO r1, u1)) (hf : 5 + 1 ≤ f) (hL : 8 + (3 + 11) + 110 ≤ L) (hsz : ls.size = nL) (hW : (rest.map fun v => v.category).sum ≤ 8) (hdg : decode cc pc = .ok (.invokevirtual 231, 3)) (kk : ∀ (H1 : Heap) (locs1 : List Loc), mo_I G A s.heap (st_W ai sa u1.1 (ml_C ai s0 b0 sa ma rf u1.2 ++ tl)) H1 locs1 → W p l e R s m args below meth c H1 locs1 (cells + 1) (slots + 7) Q (F0 m (pc + 3) ls (.int r1 :: rest))) (hc0 : cells + 1 ≤ kc := by first | exact Nat.le_of_ble_eq_true rfl | omega) (hs0 : slots + 7 ≤ ks := by first | exact Nat.le_of_ble_eq_true rfl | omega) : W p l e R s m args below meth c H locs cells slots Q (F0 m pc ls (.int a1 :: .ref (ma 0) :: rest)) :=
  xz_usei hC.2.2.2.2.2.2.2.1 hI (vy_runV (As := [.int a1]) (rest := rest) ⟨hC.1, hC.2.1, hC.2.2.1, hC.2.2.2.1, hC.2.2.2.2.1⟩ (w_ml_doRain l G ai h0 v ml a1 (mxO r1) u1 hz H.size) (cwV 1 hC.2.2.2.2.1 (lw_V q937 q939 qs16 q115 q940) rfl rfl rfl (by decide +kernel) ⟨Nat.le_trans hf hC.2.2.2.2.2.2.2.2.1, Nat.le_trans hL hC.2.2.2.2.2.2.2.2.2.1⟩) ⟨gz_blind, (va_recv hC.2.2.2.2.2.2.1 hI.1 (ci := 1) (q0 := 18) rfl rfl), gz_pre0 hC hZ hI⟩ rfl rfl hsz rfl (lv_room hW) hdg ⟨Nat.le_trans hc0 hC.2.2.2.2.2.2.2.2.2.2.1, Nat.le_trans hs0 hC.2.2.2.2.2.2.2.2.2.2.2⟩) rfl (fun na1 H1 locs1 hI1 => kk H1 locs1 hI1)
theorem k_X0_ml_doRain_x {p : Program} {l : Launch} {e : Env} {R : Room} {s s0 : State} {b0 : Addr} {m : MethodId} {args : Array Value} {below : List Frame} {meth : Method} {c : Code} {H : Heap} {locs : List Loc} {cells slots : Nat} {Q : State → Prop} {pc : Nat} {ls : Array Slot} {rest : List Value} {G : va_G} {ai : Nat → ClassId} {A : Nat → Prop} {cc : ByteArray} {nL f L kc ks : Nat} {sa ma : Nat → Nat} {rf : Value} {tl : va_W}  {v : MS} {ml : MS} {a1 : Int32} {x1 : MX} {u1 : MS × MS}  (hC : mo_C p R s m args meth c G ai A RX0 cc nL f L kc ks) (h0 : mo_S0 s0 b0) (hZ : mo_Z s0 A s) (hI : mo_I G A s.heap (st_W ai sa v (ml_C ai s0 b0 sa ma rf ml ++ tl)) H locs) (hz : f_ml_doRain v ml a1 = some (x1, u1)) (hx1 : isX x1 = true) (hf : 5 + 1 ≤ f) (hL : 8 + (3 + 11) + 110 ≤ L) (hsz : ls.size = nL) (hW : (rest.map fun v => v.category).sum ≤ 8) (hdg : decode cc pc = .ok (.invokevirtual 231, 3)) (kk : ∀ (da : Nat → Nat) (H1 : Heap) (locs1 : List Loc), mo_I G A s.heap (ex_W x1 da ++ (st_W ai sa u1.1 (ml_C ai s0 b0 sa ma rf u1.2 ++ tl))) H1 locs1 → vy_W p l e R s m args below meth c H1 locs1 (cells + 1) (slots + 7) Q (F0 m pc ls (rest)) (da 0)) (hc0 : cells + 1 ≤ kc := by first | exact Nat.le_of_ble_eq_true rfl | omega) (hs0 : slots + 7 ≤ ks := by first | exact Nat.le_of_ble_eq_true rfl | omega) : W p l e R s m args below meth c H locs cells slots Q (F0 m pc ls (.int a1 :: .ref (ma 0) :: rest)) :=
  xz_usex hC.2.2.2.2.2.2.2.1 hI (vy_runV (As := [.int a1]) (rest := rest) ⟨hC.1, hC.2.1, hC.2.2.1, hC.2.2.2.1, hC.2.2.2.2.1⟩ (w_ml_doRain l G ai h0 v ml a1 x1 u1 hz H.size) (cwV 1 hC.2.2.2.2.1 (lw_V q937 q939 qs16 q115 q940) rfl rfl rfl (by decide +kernel) ⟨Nat.le_trans hf hC.2.2.2.2.2.2.2.2.1, Nat.le_trans hL hC.2.2.2.2.2.2.2.2.2.1⟩) ⟨gz_blind, (va_recv hC.2.2.2.2.2.2.1 hI.1 (ci := 1) (q0 := 18) rfl rfl), gz_pre0 hC hZ hI⟩ rfl rfl hsz rfl (lv_room hW) hdg ⟨Nat.le_trans hc0 hC.2.2.2.2.2.2.2.2.2.2.1, Nat.le_trans hs0 hC.2.2.2.2.2.2.2.2.2.2.2⟩) xz_noi hx1 (fun na1 da H1 locs1 hI1 => kk da H1 locs1 hI1)
def f_ml_doGardener (v : MS) (ml : MS) (a1 : Int32) : Option ((MX × MS × MS)) := xg (f_want (p_isSq a1) (-1)) (fun z1 => (v, ml)) (fun r2 z1 => lj (fun (v6 : MS) (ml7 : MS) (t8 : Int32) => xg (f_allow t8 1 4) (fun z10 => (v6, ml7)) (fun r11 z10 => xg (f_ml_tread v6 ml7 a1) (fun z15 => (z15.1, z15.2)) (fun r16 z15 => gd (gi (z15.1 0 6) 4) (ob (f_ga_becomes z15.1 (z15.1 0 6) a1) (fun r21 u22 => lt (rup u22 0 (upd (u22 0) 6 ((u22 0 6) + 1))) (fun v24 => some (mxO ((v24 0 6) - 1), (v24, z15.2)))))))) (fun j24_8 => if 4 ≤ (v 0 6) then (j24_8 v ml 0) else (j24_8 v ml 1)))
set_option maxHeartbeats 4000000 in
theorem w_ml_doGardener (l : Launch) (G : va_G) (ai : Nat → ClassId) {s0 : State} {b0 : Addr} (h0 : mo_S0 s0 b0) {sa ma : Nat → Nat} {rf : Value} {tl : va_W} (v : MS) (ml : MS) (a1 : Int32) (r0 : MX) (u0 : MS × MS) (hF : f_ml_doGardener v ml a1 = some (r0, u0)) : xz_Met l G ai s0 yX0_doGardener cX0_doGardener 2 (some .int) ({ frames := 6, cells := 4, slots := 31, locals := 135 } : Room) [.ref (ma 0), .int a1] (st_W ai sa v (ml_C ai s0 b0 sa ma rf ml ++ tl)) (fun A => xq_i G ai (fun (_ : Nat → Nat) => (st_W ai sa u0.1 (ml_C ai s0 b0 sa ma rf u0.2 ++ tl))) r0 A) r0 (fun (_ : Nat → Nat) => (st_W ai sa u0.1 (ml_C ai s0 b0 sa ma rf u0.2 ++ tl))) 4 31 := by
  refine xz_body (Qc := fun A => xq_i G ai (fun (_ : Nat → Nat) => (st_W ai sa u0.1 (ml_C ai s0 b0 sa ma rf u0.2 ++ tl))) r0 A) (by decide) (Nat.le_of_ble_eq_true rfl) ?_
  intro p e s m args below meth c A ls hC hZ hr hI hl hxt
  have hx := hC.1
  have hb := hC.2.1
  have hl : lv_has ls 2 [(0, .ref (ma 0)), (1, .int a1)] := hl
  show W p l e _ s m args below meth c s.heap [] 0 0 (vy_MQ below (xq_i G ai (fun (_ : Nat → Nat) => (st_W ai sa u0.1 (ml_C ai s0 b0 sa ma rf u0.2 ++ tl))) r0 A) (xq_X G ai (fun (_ : Nat → Nat) => (st_W ai sa u0.1 (ml_C ai s0 b0 sa ma rf u0.2 ++ tl))) r0 A) args s 4 31 A) (F0 m 0 ls [])
  rw [f_ml_doGardener] at hF
  refine lv_iload_n hx hb dX0_doGardener_0 rfl (lv_at hl 1 rfl) ?_
  refine k_X0_isSq (mo_CN hC) (Nat.le_of_ble_eq_true rfl) (Nat.le_of_ble_eq_true rfl) hl.1 (Nat.le_of_ble_eq_true rfl) dX0_doGardener_1 ?_
  refine lv_iconst (v := (-1)) hx hb dX0_doGardener_4 (by decide) ?_
  rcases xg_some hF with ⟨r2, z1, hz4, hF⟩ | ⟨ex3, z1, hx5, hz4, hF⟩
  · refine k_X0_x_want hC h0 hZ hI hz4 (Nat.le_of_ble_eq_true rfl) (Nat.le_of_ble_eq_true rfl) hl.1 (Nat.le_of_ble_eq_true rfl) dX0_doGardener_5 (fun H locs hI => ?_)
    refine lv_aload_n hx hb dX0_doGardener_8 rfl (lv_at hl 0 rfl) ?_
    refine ml_X0_g_ml_now hC h0 hZ hI dX0_doGardener_9 ?_
    refine st_X0_g_st_gardenerMany hC h0 hZ hI dX0_doGardener_12 ?_
    refine lv_iconst (v := 4) hx hb dX0_doGardener_15 (by decide) ?_
    obtain ⟨j24_8, hj24_8, hF⟩ := lj_some hF
    have J24 : ∀ (v6 : MS) (ml7 : MS) (t8 : Int32) (H : Heap) (locs : List Loc) (ls : Array Slot), j24_8 v6 ml7 t8 = some (r0, u0) → mo_I G A s.heap (st_W ai sa v6 (ml_C ai s0 b0 sa ma rf ml7 ++ tl)) H locs → lv_has ls 2 [(0, .ref (ma 0)), (1, .int a1)] → W p l e ({ frames := 6, cells := 4, slots := 31, locals := 135 } : Room) s m args below meth c H locs (1) (7) (vy_MQ below (xq_i G ai (fun (_ : Nat → Nat) => (st_W ai sa u0.1 (ml_C ai s0 b0 sa ma rf u0.2 ++ tl))) r0 A) (xq_X G ai (fun (_ : Nat → Nat) => (st_W ai sa u0.1 (ml_C ai s0 b0 sa ma rf u0.2 ++ tl))) r0 A) args s 4 31 A) (F0 m 24 ls [.int t8]) := by
      intro v6 ml7 t8 H locs ls hF hI hl
      rw [hj24_8] at hF
      refine lv_iconst (v := 1) hx hb dX0_doGardener_24 (by decide) ?_
      refine lv_iconst (v := 4) hx hb dX0_doGardener_25 (by decide) ?_
      rcases xg_some hF with ⟨r11, z10, hz13, hF⟩ | ⟨ex12, z10, hx14, hz13, hF⟩
      · refine k_X0_x_allow hC h0 hZ hI hz13 (Nat.le_of_ble_eq_true rfl) (Nat.le_of_ble_eq_true rfl) hl.1 (Nat.le_of_ble_eq_true rfl) dX0_doGardener_26 (fun H locs hI => ?_)
        refine lv_aload_n hx hb dX0_doGardener_29 rfl (lv_at hl 0 rfl) ?_
        refine lv_iload_n hx hb dX0_doGardener_30 rfl (lv_at hl 1 rfl) ?_
        rcases xg_some hF with ⟨r16, z15, hz18, hF⟩ | ⟨ex17, z15, hx19, hz18, hF⟩
        · refine k_X0_ml_tread hC h0 hZ hI hz18 (Nat.le_of_ble_eq_true rfl) (Nat.le_of_ble_eq_true rfl) hl.1 (Nat.le_of_ble_eq_true rfl) dX0_doGardener_31 (fun H locs hI => ?_)
          refine lv_aload_n hx hb dX0_doGardener_34 rfl (lv_at hl 0 rfl) ?_
          refine ml_X0_g_ml_now hC h0 hZ hI dX0_doGardener_35 ?_
          refine st_X0_g_st_gardeners hC h0 hZ hI dX0_doGardener_38 ?_
          refine lv_aload_n hx hb dX0_doGardener_41 rfl (lv_at hl 0 rfl) ?_
          refine ml_X0_g_ml_now hC h0 hZ hI dX0_doGardener_42 ?_
          refine st_X0_g_st_gardenerMany hC h0 hZ hI dX0_doGardener_45 ?_
          obtain ⟨hg20, hF⟩ := gd_some hF
          refine st_l_gards hC hI hg20 dX0_doGardener_48 ?_
          refine lv_iload_n hx hb dX0_doGardener_49 rfl (lv_at hl 1 rfl) ?_
          obtain ⟨r21, u22, hz23, hF⟩ := ob_some hF
          refine k_X0_ga_becomes hC h0 hZ hI hg20 hz23 (Nat.le_of_ble_eq_true rfl) (Nat.le_of_ble_eq_true rfl) hl.1 (Nat.le_of_ble_eq_true rfl) dX0_doGardener_50 (fun H locs hI => ?_)
          refine lv_aload_n hx hb dX0_doGardener_53 rfl (lv_at hl 0 rfl) ?_
          refine ml_X0_g_ml_now hC h0 hZ hI dX0_doGardener_54 ?_
          refine lv_dup hx hb dX0_doGardener_57 rfl ?_
          refine st_X0_g_st_gardenerMany hC h0 hZ hI dX0_doGardener_58 ?_
          refine lv_iconst (v := 1) hx hb dX0_doGardener_61 (by decide) ?_
          refine lv_iadd hx hb dX0_doGardener_62 ?_
          obtain ⟨v24, hv24, hF⟩ := lt_some hF
          refine st_X0_p_st_gardenerMany hC h0 hZ hI hv24 dX0_doGardener_63 (fun H locs hI => ?_)
          refine lv_aload_n hx hb dX0_doGardener_66 rfl (lv_at hl 0 rfl) ?_
          refine ml_X0_g_ml_now hC h0 hZ hI dX0_doGardener_67 ?_
          refine st_X0_g_st_gardenerMany hC h0 hZ hI dX0_doGardener_70 ?_
          refine lv_iconst (v := 1) hx hb dX0_doGardener_73 (by decide) ?_
          refine lv_isub hx hb dX0_doGardener_74 ?_
          cases hF
          exact xz_iret (na := fun _ => 0) hC hr rfl hI rfl (by first | exact Nat.le_of_ble_eq_true rfl | omega) (by first | exact Nat.le_of_ble_eq_true rfl | omega) dX0_doGardener_75
        · cases hF
          exact k_X0_ml_tread_x hC h0 hZ hI hz18 hx19 (Nat.le_of_ble_eq_true rfl) (Nat.le_of_ble_eq_true rfl) hl.1 (Nat.le_of_ble_eq_true rfl) dX0_doGardener_31 (fun da H locs hI => xz_out (na := fun _ => 0) hC hxt hI hx19 (by first | exact Nat.le_of_ble_eq_true rfl | omega) (by first | exact Nat.le_of_ble_eq_true rfl | omega))
      · cases hF
        exact k_X0_x_allow_x hC h0 hZ hI hz13 hx14 (Nat.le_of_ble_eq_true rfl) (Nat.le_of_ble_eq_true rfl) hl.1 (Nat.le_of_ble_eq_true rfl) dX0_doGardener_26 (fun da H locs hI => xz_out (na := fun _ => 0) hC hxt hI hx14 (by first | exact Nat.le_of_ble_eq_true rfl | omega) (by first | exact Nat.le_of_ble_eq_true rfl | omega))
    refine lv_icmp_ge (tgt := 23) hx hb dX0_doGardener_16 (by decide) (fun c25 => ?_) (fun c25 => ?_)
    · have hF := if_t hF c25
      refine lv_iconst (v := 0) hx hb dX0_doGardener_23 (by decide) ?_
      exact J24 _ _ _ _ _ _ hF hI (lv_sub hl [0, 1] rfl)
    · have hF := if_f hF c25
      refine lv_iconst (v := 1) hx hb dX0_doGardener_19 (by decide) ?_
      refine lv_goto (tgt := 24) hx hb dX0_doGardener_20 (by decide) ?_
      exact J24 _ _ _ _ _ _ hF hI (lv_sub hl [0, 1] rfl)
  · cases hF
    exact k_X0_x_want_x hC h0 hZ hI hz4 hx5 (Nat.le_of_ble_eq_true rfl) (Nat.le_of_ble_eq_true rfl) hl.1 (Nat.le_of_ble_eq_true rfl) dX0_doGardener_5 (fun da H locs hI => xz_out (na := fun _ => 0) hC hxt hI hx5 (by first | exact Nat.le_of_ble_eq_true rfl | omega) (by first | exact Nat.le_of_ble_eq_true rfl | omega))
theorem k_X0_ml_doGardener {p : Program} {l : Launch} {e : Env} {R : Room} {s s0 : State} {b0 : Addr} {m : MethodId} {args : Array Value} {below : List Frame} {meth : Method} {c : Code} {H : Heap} {locs : List Loc} {cells slots : Nat} {Q : State → Prop} {pc : Nat} {ls : Array Slot} {rest : List Value} {G : va_G} {ai : Nat → ClassId} {A : Nat → Prop} {cc : ByteArray} {nL f L kc ks : Nat} {sa ma : Nat → Nat} {rf : Value} {tl : va_W}  {v : MS} {ml : MS} {a1 : Int32} {r1 : Int32} {u1 : MS × MS}  (hC : mo_C p R s m args meth c G ai A RX0 cc nL f L kc ks) (h0 : mo_S0 s0 b0) (hZ : mo_Z s0 A s) (hI : mo_I G A s.heap (st_W ai sa v (ml_C ai s0 b0 sa ma rf ml ++ tl)) H locs) (hz : f_ml_doGardener v ml a1 = some (mxO r1, u1)) (hf : 6 + 1 ≤ f) (hL : 8 + (2 + 11) + 135 ≤ L) (hsz : ls.size = nL) (hW : (rest.map fun v => v.category).sum ≤ 8) (hdg : decode cc pc = .ok (.invokevirtual 253, 3)) (kk : ∀ (H1 : Heap) (locs1 : List Loc), mo_I G A s.heap (st_W ai sa u1.1 (ml_C ai s0 b0 sa ma rf u1.2 ++ tl)) H1 locs1 → W p l e R s m args below meth c H1 locs1 (cells + 4) (slots + 31) Q (F0 m (pc + 3) ls (.int r1 :: rest))) (hc0 : cells + 4 ≤ kc := by first | exact Nat.le_of_ble_eq_true rfl | omega) (hs0 : slots + 31 ≤ ks := by first | exact Nat.le_of_ble_eq_true rfl | omega) : W p l e R s m args below meth c H locs cells slots Q (F0 m pc ls (.int a1 :: .ref (ma 0) :: rest)) :=
  xz_usei hC.2.2.2.2.2.2.2.1 hI (vy_runV (As := [.int a1]) (rest := rest) ⟨hC.1, hC.2.1, hC.2.2.1, hC.2.2.2.1, hC.2.2.2.2.1⟩ (w_ml_doGardener l G ai h0 v ml a1 (mxO r1) u1 hz H.size) (cwV 1 hC.2.2.2.2.1 (lw_V q945 q947 qs17 q115 q948) rfl rfl rfl (by decide +kernel) ⟨Nat.le_trans hf hC.2.2.2.2.2.2.2.2.1, Nat.le_trans hL hC.2.2.2.2.2.2.2.2.2.1⟩) ⟨gz_blind, (va_recv hC.2.2.2.2.2.2.1 hI.1 (ci := 1) (q0 := 18) rfl rfl), gz_pre0 hC hZ hI⟩ rfl rfl hsz rfl (lv_room hW) hdg ⟨Nat.le_trans hc0 hC.2.2.2.2.2.2.2.2.2.2.1, Nat.le_trans hs0 hC.2.2.2.2.2.2.2.2.2.2.2⟩) rfl (fun na1 H1 locs1 hI1 => kk H1 locs1 hI1)
theorem k_X0_ml_doGardener_x {p : Program} {l : Launch} {e : Env} {R : Room} {s s0 : State} {b0 : Addr} {m : MethodId} {args : Array Value} {below : List Frame} {meth : Method} {c : Code} {H : Heap} {locs : List Loc} {cells slots : Nat} {Q : State → Prop} {pc : Nat} {ls : Array Slot} {rest : List Value} {G : va_G} {ai : Nat → ClassId} {A : Nat → Prop} {cc : ByteArray} {nL f L kc ks : Nat} {sa ma : Nat → Nat} {rf : Value} {tl : va_W}  {v : MS} {ml : MS} {a1 : Int32} {x1 : MX} {u1 : MS × MS}  (hC : mo_C p R s m args meth c G ai A RX0 cc nL f L kc ks) (h0 : mo_S0 s0 b0) (hZ : mo_Z s0 A s) (hI : mo_I G A s.heap (st_W ai sa v (ml_C ai s0 b0 sa ma rf ml ++ tl)) H locs) (hz : f_ml_doGardener v ml a1 = some (x1, u1)) (hx1 : isX x1 = true) (hf : 6 + 1 ≤ f) (hL : 8 + (2 + 11) + 135 ≤ L) (hsz : ls.size = nL) (hW : (rest.map fun v => v.category).sum ≤ 8) (hdg : decode cc pc = .ok (.invokevirtual 253, 3)) (kk : ∀ (da : Nat → Nat) (H1 : Heap) (locs1 : List Loc), mo_I G A s.heap (ex_W x1 da ++ (st_W ai sa u1.1 (ml_C ai s0 b0 sa ma rf u1.2 ++ tl))) H1 locs1 → vy_W p l e R s m args below meth c H1 locs1 (cells + 4) (slots + 31) Q (F0 m pc ls (rest)) (da 0)) (hc0 : cells + 4 ≤ kc := by first | exact Nat.le_of_ble_eq_true rfl | omega) (hs0 : slots + 31 ≤ ks := by first | exact Nat.le_of_ble_eq_true rfl | omega) : W p l e R s m args below meth c H locs cells slots Q (F0 m pc ls (.int a1 :: .ref (ma 0) :: rest)) :=
  xz_usex hC.2.2.2.2.2.2.2.1 hI (vy_runV (As := [.int a1]) (rest := rest) ⟨hC.1, hC.2.1, hC.2.2.1, hC.2.2.2.1, hC.2.2.2.2.1⟩ (w_ml_doGardener l G ai h0 v ml a1 x1 u1 hz H.size) (cwV 1 hC.2.2.2.2.1 (lw_V q945 q947 qs17 q115 q948) rfl rfl rfl (by decide +kernel) ⟨Nat.le_trans hf hC.2.2.2.2.2.2.2.2.1, Nat.le_trans hL hC.2.2.2.2.2.2.2.2.2.1⟩) ⟨gz_blind, (va_recv hC.2.2.2.2.2.2.1 hI.1 (ci := 1) (q0 := 18) rfl rfl), gz_pre0 hC hZ hI⟩ rfl rfl hsz rfl (lv_room hW) hdg ⟨Nat.le_trans hc0 hC.2.2.2.2.2.2.2.2.2.2.1, Nat.le_trans hs0 hC.2.2.2.2.2.2.2.2.2.2.2⟩) xz_noi hx1 (fun na1 da H1 locs1 hI1 => kk da H1 locs1 hI1)
def f_ml_doWalk (v : MS) (ml : MS) (a1 : Int32) (a2 : Int32) : Option ((MX × MS × MS)) := xg (f_ml_gardenerAt v ml a1) (fun z1 => (z1.1, z1.2)) (fun r2 z1 => gd (gi r2 4) (xg (f_ml_beside z1.1 z1.2 r2 a2) (fun z7 => (z7.1, z7.2)) (fun r8 z7 => xg (f_ml_tread z7.1 z7.2 r8) (fun z12 => (z12.1, z12.2)) (fun r13 z12 => xg (f_ga_works z12.1 r2 1) (fun z17 => (z17, z12.2)) (fun r18 z17 => lt (rup z17 (6 + r2.toNatClampNeg) (upd (z17 (6 + r2.toNatClampNeg)) 0 r8)) (fun v22 => lt (rup v22 (6 + r2.toNatClampNeg) (upd (v22 (6 + r2.toNatClampNeg)) 4 ((v22 (6 + r2.toNatClampNeg) 4) + 1))) (fun v23 => some (mxO r8, (v23, z12.2)))))))))
set_option maxHeartbeats 4000000 in
theorem w_ml_doWalk (l : Launch) (G : va_G) (ai : Nat → ClassId) {s0 : State} {b0 : Addr} (h0 : mo_S0 s0 b0) {sa ma : Nat → Nat} {rf : Value} {tl : va_W} (v : MS) (ml : MS) (a1 : Int32) (a2 : Int32) (r0 : MX) (u0 : MS × MS) (hF : f_ml_doWalk v ml a1 a2 = some (r0, u0)) : xz_Met l G ai s0 yX0_doWalk cX0_doWalk 5 (some .int) ({ frames := 7, cells := 6, slots := 46, locals := 159 } : Room) [.ref (ma 0), .int a1, .int a2] (st_W ai sa v (ml_C ai s0 b0 sa ma rf ml ++ tl)) (fun A => xq_i G ai (fun (_ : Nat → Nat) => (st_W ai sa u0.1 (ml_C ai s0 b0 sa ma rf u0.2 ++ tl))) r0 A) r0 (fun (_ : Nat → Nat) => (st_W ai sa u0.1 (ml_C ai s0 b0 sa ma rf u0.2 ++ tl))) 6 46 := by
  refine xz_body (Qc := fun A => xq_i G ai (fun (_ : Nat → Nat) => (st_W ai sa u0.1 (ml_C ai s0 b0 sa ma rf u0.2 ++ tl))) r0 A) (by decide) (Nat.le_of_ble_eq_true rfl) ?_
  intro p e s m args below meth c A ls hC hZ hr hI hl hxt
  have hx := hC.1
  have hb := hC.2.1
  have hl : lv_has ls 5 [(0, .ref (ma 0)), (1, .int a1), (2, .int a2)] := hl
  show W p l e _ s m args below meth c s.heap [] 0 0 (vy_MQ below (xq_i G ai (fun (_ : Nat → Nat) => (st_W ai sa u0.1 (ml_C ai s0 b0 sa ma rf u0.2 ++ tl))) r0 A) (xq_X G ai (fun (_ : Nat → Nat) => (st_W ai sa u0.1 (ml_C ai s0 b0 sa ma rf u0.2 ++ tl))) r0 A) args s 6 46 A) (F0 m 0 ls [])
  rw [f_ml_doWalk] at hF
  refine lv_aload_n hx hb dX0_doWalk_0 rfl (lv_at hl 0 rfl) ?_
  refine lv_iload_n hx hb dX0_doWalk_1 rfl (lv_at hl 1 rfl) ?_
  rcases xg_some hF with ⟨r2, z1, hz4, hF⟩ | ⟨ex3, z1, hx5, hz4, hF⟩
  · obtain ⟨hg6, hF⟩ := gd_some hF
    refine k_X0_ml_gardenerAt hC h0 hZ hI hz4 (Nat.le_of_ble_eq_true rfl) (Nat.le_of_ble_eq_true rfl) hl.1 (Nat.le_of_ble_eq_true rfl) dX0_doWalk_2 (fun H locs hI => ?_)
    refine lv_astore_n (lv' := [(3, .ref (sa (10 + r2.toNatClampNeg))), (0, .ref (ma 0)), (1, .int a1), (2, .int a2)]) hx hb dX0_doWalk_5 rfl hl (by decide) rfl (fun ls hl => ?_)
    refine lv_aload_n hx hb dX0_doWalk_6 rfl (lv_at hl 1 rfl) ?_
    refine lv_aload_n hx hb dX0_doWalk_7 rfl (lv_at hl 0 rfl) ?_
    refine lv_iload_n hx hb dX0_doWalk_8 rfl (lv_at hl 3 rfl) ?_
    rcases xg_some hF with ⟨r8, z7, hz10, hF⟩ | ⟨ex9, z7, hx11, hz10, hF⟩
    · refine k_X0_ml_beside hC h0 hZ hI hg6 hz10 (Nat.le_of_ble_eq_true rfl) (Nat.le_of_ble_eq_true rfl) hl.1 (Nat.le_of_ble_eq_true rfl) dX0_doWalk_9 (fun H locs hI => ?_)
      refine mo_ist4 (lv' := [(4, .int r8), (3, .ref (sa (10 + r2.toNatClampNeg))), (0, .ref (ma 0)), (1, .int a1), (2, .int a2)]) hx hb rfl dX0_doWalk_12 hl (by decide) rfl (fun ls hl => ?_)
      refine lv_aload_n hx hb dX0_doWalk_14 rfl (lv_at hl 2 rfl) ?_
      refine lv_iload hx hb dX0_doWalk_15 (lv_at hl 0 rfl) ?_
      rcases xg_some hF with ⟨r13, z12, hz15, hF⟩ | ⟨ex14, z12, hx16, hz15, hF⟩
      · refine k_X0_ml_tread hC h0 hZ hI hz15 (Nat.le_of_ble_eq_true rfl) (Nat.le_of_ble_eq_true rfl) hl.1 (Nat.le_of_ble_eq_true rfl) dX0_doWalk_17 (fun H locs hI => ?_)
        refine lv_aload_n hx hb dX0_doWalk_20 rfl (lv_at hl 1 rfl) ?_
        refine lv_iconst (v := 1) hx hb dX0_doWalk_21 (by decide) ?_
        rcases xg_some hF with ⟨r18, z17, hz20, hF⟩ | ⟨ex19, z17, hx21, hz20, hF⟩
        · refine k_X0_ga_works hC h0 hZ hI hg6 hz20 (Nat.le_of_ble_eq_true rfl) (Nat.le_of_ble_eq_true rfl) hl.1 (Nat.le_of_ble_eq_true rfl) dX0_doWalk_22 (fun H locs hI => ?_)
          refine lv_aload_n hx hb dX0_doWalk_25 rfl (lv_at hl 1 rfl) ?_
          refine lv_iload hx hb dX0_doWalk_26 (lv_at hl 0 rfl) ?_
          obtain ⟨v22, hv22, hF⟩ := lt_some hF
          refine st_X0_p_gard_square hC h0 hZ hI hg6 hv22 dX0_doWalk_28 (fun H locs hI => ?_)
          refine lv_aload_n hx hb dX0_doWalk_31 rfl (lv_at hl 1 rfl) ?_
          refine lv_dup hx hb dX0_doWalk_32 rfl ?_
          refine st_X0_g_gard_steps hC h0 hZ hI hg6 dX0_doWalk_33 ?_
          refine lv_iconst (v := 1) hx hb dX0_doWalk_36 (by decide) ?_
          refine lv_iadd hx hb dX0_doWalk_37 ?_
          obtain ⟨v23, hv23, hF⟩ := lt_some hF
          refine st_X0_p_gard_steps hC h0 hZ hI hg6 hv23 dX0_doWalk_38 (fun H locs hI => ?_)
          refine lv_iload hx hb dX0_doWalk_41 (lv_at hl 0 rfl) ?_
          cases hF
          exact xz_iret (na := fun _ => 0) hC hr rfl hI rfl (by first | exact Nat.le_of_ble_eq_true rfl | omega) (by first | exact Nat.le_of_ble_eq_true rfl | omega) dX0_doWalk_43
        · cases hF
          exact k_X0_ga_works_x hC h0 hZ hI hg6 hz20 hx21 (Nat.le_of_ble_eq_true rfl) (Nat.le_of_ble_eq_true rfl) hl.1 (Nat.le_of_ble_eq_true rfl) dX0_doWalk_22 (fun da H locs hI => xz_out (na := fun _ => 0) hC hxt hI hx21 (by first | exact Nat.le_of_ble_eq_true rfl | omega) (by first | exact Nat.le_of_ble_eq_true rfl | omega))
      · cases hF
        exact k_X0_ml_tread_x hC h0 hZ hI hz15 hx16 (Nat.le_of_ble_eq_true rfl) (Nat.le_of_ble_eq_true rfl) hl.1 (Nat.le_of_ble_eq_true rfl) dX0_doWalk_17 (fun da H locs hI => xz_out (na := fun _ => 0) hC hxt hI hx16 (by first | exact Nat.le_of_ble_eq_true rfl | omega) (by first | exact Nat.le_of_ble_eq_true rfl | omega))
    · cases hF
      exact k_X0_ml_beside_x hC h0 hZ hI hg6 hz10 hx11 (Nat.le_of_ble_eq_true rfl) (Nat.le_of_ble_eq_true rfl) hl.1 (Nat.le_of_ble_eq_true rfl) dX0_doWalk_9 (fun da H locs hI => xz_out (na := fun _ => 0) hC hxt hI hx11 (by first | exact Nat.le_of_ble_eq_true rfl | omega) (by first | exact Nat.le_of_ble_eq_true rfl | omega))
  · cases hF
    exact k_X0_ml_gardenerAt_x hC h0 hZ hI hz4 hx5 (Nat.le_of_ble_eq_true rfl) (Nat.le_of_ble_eq_true rfl) hl.1 (Nat.le_of_ble_eq_true rfl) dX0_doWalk_2 (fun da H locs hI => xz_out (na := fun _ => 0) hC hxt hI hx5 (by first | exact Nat.le_of_ble_eq_true rfl | omega) (by first | exact Nat.le_of_ble_eq_true rfl | omega))
theorem k_X0_ml_doWalk {p : Program} {l : Launch} {e : Env} {R : Room} {s s0 : State} {b0 : Addr} {m : MethodId} {args : Array Value} {below : List Frame} {meth : Method} {c : Code} {H : Heap} {locs : List Loc} {cells slots : Nat} {Q : State → Prop} {pc : Nat} {ls : Array Slot} {rest : List Value} {G : va_G} {ai : Nat → ClassId} {A : Nat → Prop} {cc : ByteArray} {nL f L kc ks : Nat} {sa ma : Nat → Nat} {rf : Value} {tl : va_W}  {v : MS} {ml : MS} {a1 : Int32} {a2 : Int32} {r1 : Int32} {u1 : MS × MS}  (hC : mo_C p R s m args meth c G ai A RX0 cc nL f L kc ks) (h0 : mo_S0 s0 b0) (hZ : mo_Z s0 A s) (hI : mo_I G A s.heap (st_W ai sa v (ml_C ai s0 b0 sa ma rf ml ++ tl)) H locs) (hz : f_ml_doWalk v ml a1 a2 = some (mxO r1, u1)) (hf : 7 + 1 ≤ f) (hL : 8 + (5 + 11) + 159 ≤ L) (hsz : ls.size = nL) (hW : (rest.map fun v => v.category).sum ≤ 8) (hdg : decode cc pc = .ok (.invokevirtual 279, 3)) (kk : ∀ (H1 : Heap) (locs1 : List Loc), mo_I G A s.heap (st_W ai sa u1.1 (ml_C ai s0 b0 sa ma rf u1.2 ++ tl)) H1 locs1 → W p l e R s m args below meth c H1 locs1 (cells + 6) (slots + 46) Q (F0 m (pc + 3) ls (.int r1 :: rest))) (hc0 : cells + 6 ≤ kc := by first | exact Nat.le_of_ble_eq_true rfl | omega) (hs0 : slots + 46 ≤ ks := by first | exact Nat.le_of_ble_eq_true rfl | omega) : W p l e R s m args below meth c H locs cells slots Q (F0 m pc ls (.int a2 :: .int a1 :: .ref (ma 0) :: rest)) :=
  xz_usei hC.2.2.2.2.2.2.2.1 hI (vy_runV (As := [.int a1, .int a2]) (rest := rest) ⟨hC.1, hC.2.1, hC.2.2.1, hC.2.2.2.1, hC.2.2.2.2.1⟩ (w_ml_doWalk l G ai h0 v ml a1 a2 (mxO r1) u1 hz H.size) (cwV 2 hC.2.2.2.2.1 (lw_V q966 q968 qs20 q115 q969) rfl rfl rfl (by decide +kernel) ⟨Nat.le_trans hf hC.2.2.2.2.2.2.2.2.1, Nat.le_trans hL hC.2.2.2.2.2.2.2.2.2.1⟩) ⟨gz_blind, (va_recv hC.2.2.2.2.2.2.1 hI.1 (ci := 1) (q0 := 18) rfl rfl), gz_pre0 hC hZ hI⟩ rfl rfl hsz rfl (lv_room hW) hdg ⟨Nat.le_trans hc0 hC.2.2.2.2.2.2.2.2.2.2.1, Nat.le_trans hs0 hC.2.2.2.2.2.2.2.2.2.2.2⟩) rfl (fun na1 H1 locs1 hI1 => kk H1 locs1 hI1)
theorem k_X0_ml_doWalk_x {p : Program} {l : Launch} {e : Env} {R : Room} {s s0 : State} {b0 : Addr} {m : MethodId} {args : Array Value} {below : List Frame} {meth : Method} {c : Code} {H : Heap} {locs : List Loc} {cells slots : Nat} {Q : State → Prop} {pc : Nat} {ls : Array Slot} {rest : List Value} {G : va_G} {ai : Nat → ClassId} {A : Nat → Prop} {cc : ByteArray} {nL f L kc ks : Nat} {sa ma : Nat → Nat} {rf : Value} {tl : va_W}  {v : MS} {ml : MS} {a1 : Int32} {a2 : Int32} {x1 : MX} {u1 : MS × MS}  (hC : mo_C p R s m args meth c G ai A RX0 cc nL f L kc ks) (h0 : mo_S0 s0 b0) (hZ : mo_Z s0 A s) (hI : mo_I G A s.heap (st_W ai sa v (ml_C ai s0 b0 sa ma rf ml ++ tl)) H locs) (hz : f_ml_doWalk v ml a1 a2 = some (x1, u1)) (hx1 : isX x1 = true) (hf : 7 + 1 ≤ f) (hL : 8 + (5 + 11) + 159 ≤ L) (hsz : ls.size = nL) (hW : (rest.map fun v => v.category).sum ≤ 8) (hdg : decode cc pc = .ok (.invokevirtual 279, 3)) (kk : ∀ (da : Nat → Nat) (H1 : Heap) (locs1 : List Loc), mo_I G A s.heap (ex_W x1 da ++ (st_W ai sa u1.1 (ml_C ai s0 b0 sa ma rf u1.2 ++ tl))) H1 locs1 → vy_W p l e R s m args below meth c H1 locs1 (cells + 6) (slots + 46) Q (F0 m pc ls (rest)) (da 0)) (hc0 : cells + 6 ≤ kc := by first | exact Nat.le_of_ble_eq_true rfl | omega) (hs0 : slots + 46 ≤ ks := by first | exact Nat.le_of_ble_eq_true rfl | omega) : W p l e R s m args below meth c H locs cells slots Q (F0 m pc ls (.int a2 :: .int a1 :: .ref (ma 0) :: rest)) :=
  xz_usex hC.2.2.2.2.2.2.2.1 hI (vy_runV (As := [.int a1, .int a2]) (rest := rest) ⟨hC.1, hC.2.1, hC.2.2.1, hC.2.2.2.1, hC.2.2.2.2.1⟩ (w_ml_doWalk l G ai h0 v ml a1 a2 x1 u1 hz H.size) (cwV 2 hC.2.2.2.2.1 (lw_V q966 q968 qs20 q115 q969) rfl rfl rfl (by decide +kernel) ⟨Nat.le_trans hf hC.2.2.2.2.2.2.2.2.1, Nat.le_trans hL hC.2.2.2.2.2.2.2.2.2.1⟩) ⟨gz_blind, (va_recv hC.2.2.2.2.2.2.1 hI.1 (ci := 1) (q0 := 18) rfl rfl), gz_pre0 hC hZ hI⟩ rfl rfl hsz rfl (lv_room hW) hdg ⟨Nat.le_trans hc0 hC.2.2.2.2.2.2.2.2.2.2.1, Nat.le_trans hs0 hC.2.2.2.2.2.2.2.2.2.2.2⟩) xz_noi hx1 (fun na1 da H1 locs1 hI1 => kk da H1 locs1 hI1)
def f_ml_doSweep (v : MS) (ml : MS) (a1 : Int32) : Option ((MX × MS × MS)) := xg (f_ml_gardenerAt v ml a1) (fun z1 => (z1.1, z1.2)) (fun r2 z1 => gd (gi r2 4) (gd (gi (z1.1 (6 + r2.toNatClampNeg) 0) 30) (lt ((z1.1 3 (z1.1 (6 + r2.toNatClampNeg) 0).toNatClampNeg)) (fun x3_8 => lj (fun (v9 : MS) (ml10 : MS) (t11 : Int32) => xg (f_allow t11 6 (v9 (6 + r2.toNatClampNeg) 0)) (fun z13 => (v9, ml10)) (fun r14 z13 => xg (f_ga_works v9 r2 1) (fun z18 => (z18, ml10)) (fun r19 z18 => lt (((x3_8 + 2) / 3)) (fun x4_23 => lj (fun (v24 : MS) (ml25 : MS) (t26 : Int32) => xg (f_allow t26 7 (x4_23 - (v24 (6 + r2.toNatClampNeg) 2))) (fun z28 => (v24, ml25)) (fun r29 z28 => lt (rup v24 (6 + r2.toNatClampNeg) (upd (v24 (6 + r2.toNatClampNeg)) 2 ((v24 (6 + r2.toNatClampNeg) 2) - x4_23))) (fun v33 => lt (rup v33 (6 + r2.toNatClampNeg) (upd (v33 (6 + r2.toNatClampNeg)) 3 ((v33 (6 + r2.toNatClampNeg) 3) + x3_8))) (fun v34 => gd (gi (v34 (6 + r2.toNatClampNeg) 0) 30) (lt (rup v34 3 (upd (v34 3) (v34 (6 + r2.toNatClampNeg) 0).toNatClampNeg 0)) (fun v36 => some (mxO x3_8, (v36, ml25)))))))) (fun j63_26 => if (z18 (6 + r2.toNatClampNeg) 2) < x4_23 then (j63_26 z18 ml10 0) else (j63_26 z18 ml10 1)))))) (fun j28_11 => if x3_8 ≤ 0 then (j28_11 z1.1 z1.2 0) else (j28_11 z1.1 z1.2 1))))))
set_option maxHeartbeats 4000000 in
theorem w_ml_doSweep (l : Launch) (G : va_G) (ai : Nat → ClassId) {s0 : State} {b0 : Addr} (h0 : mo_S0 s0 b0) {sa ma : Nat → Nat} {rf : Value} {tl : va_W} (v : MS) (ml : MS) (a1 : Int32) (r0 : MX) (u0 : MS × MS) (hF : f_ml_doSweep v ml a1 = some (r0, u0)) : xz_Met l G ai s0 yX0_doSweep cX0_doSweep 5 (some .int) ({ frames := 7, cells := 4, slots := 31, locals := 156 } : Room) [.ref (ma 0), .int a1] (st_W ai sa v (ml_C ai s0 b0 sa ma rf ml ++ tl)) (fun A => xq_i G ai (fun (_ : Nat → Nat) => (st_W ai sa u0.1 (ml_C ai s0 b0 sa ma rf u0.2 ++ tl))) r0 A) r0 (fun (_ : Nat → Nat) => (st_W ai sa u0.1 (ml_C ai s0 b0 sa ma rf u0.2 ++ tl))) 4 31 := by
  refine xz_body (Qc := fun A => xq_i G ai (fun (_ : Nat → Nat) => (st_W ai sa u0.1 (ml_C ai s0 b0 sa ma rf u0.2 ++ tl))) r0 A) (by decide) (Nat.le_of_ble_eq_true rfl) ?_
  intro p e s m args below meth c A ls hC hZ hr hI hl hxt
  have hx := hC.1
  have hb := hC.2.1
  have hl : lv_has ls 5 [(0, .ref (ma 0)), (1, .int a1)] := hl
  show W p l e _ s m args below meth c s.heap [] 0 0 (vy_MQ below (xq_i G ai (fun (_ : Nat → Nat) => (st_W ai sa u0.1 (ml_C ai s0 b0 sa ma rf u0.2 ++ tl))) r0 A) (xq_X G ai (fun (_ : Nat → Nat) => (st_W ai sa u0.1 (ml_C ai s0 b0 sa ma rf u0.2 ++ tl))) r0 A) args s 4 31 A) (F0 m 0 ls [])
  rw [f_ml_doSweep] at hF
  refine lv_aload_n hx hb dX0_doSweep_0 rfl (lv_at hl 0 rfl) ?_
  refine lv_iload_n hx hb dX0_doSweep_1 rfl (lv_at hl 1 rfl) ?_
  rcases xg_some hF with ⟨r2, z1, hz4, hF⟩ | ⟨ex3, z1, hx5, hz4, hF⟩
  · obtain ⟨hg6, hF⟩ := gd_some hF
    refine k_X0_ml_gardenerAt hC h0 hZ hI hz4 (Nat.le_of_ble_eq_true rfl) (Nat.le_of_ble_eq_true rfl) hl.1 (Nat.le_of_ble_eq_true rfl) dX0_doSweep_2 (fun H locs hI => ?_)
    refine lv_astore_n (lv' := [(2, .ref (sa (10 + r2.toNatClampNeg))), (0, .ref (ma 0)), (1, .int a1)]) hx hb dX0_doSweep_5 rfl hl (by decide) rfl (fun ls hl => ?_)
    refine lv_aload_n hx hb dX0_doSweep_6 rfl (lv_at hl 1 rfl) ?_
    refine ml_X0_g_ml_now hC h0 hZ hI dX0_doSweep_7 ?_
    refine st_X0_g_st_leaves hC h0 hZ hI dX0_doSweep_10 ?_
    refine lv_aload_n hx hb dX0_doSweep_13 rfl (lv_at hl 0 rfl) ?_
    refine st_X0_g_gard_square hC h0 hZ hI hg6 dX0_doSweep_14 ?_
    obtain ⟨hg7, hF⟩ := gd_some hF
    refine st_l_leaves hC hI hg7 dX0_doSweep_17 ?_
    obtain ⟨x3_8, hx3_8, hF⟩ := lt_some hF
    refine mo_ist (lv' := [(3, .int x3_8), (2, .ref (sa (10 + r2.toNatClampNeg))), (0, .ref (ma 0)), (1, .int a1)]) hx hb hx3_8 dX0_doSweep_18 rfl hl (by decide) rfl (fun ls hl => ?_)
    refine lv_iload_n hx hb dX0_doSweep_19 rfl (lv_at hl 0 rfl) ?_
    obtain ⟨j28_11, hj28_11, hF⟩ := lj_some hF
    have J28 : ∀ (v9 : MS) (ml10 : MS) (t11 : Int32) (H : Heap) (locs : List Loc) (ls : Array Slot), j28_11 v9 ml10 t11 = some (r0, u0) → mo_I G A s.heap (st_W ai sa v9 (ml_C ai s0 b0 sa ma rf ml10 ++ tl)) H locs → lv_has ls 5 [(3, .int x3_8), (2, .ref (sa (10 + r2.toNatClampNeg))), (0, .ref (ma 0))] → W p l e ({ frames := 7, cells := 4, slots := 31, locals := 156 } : Room) s m args below meth c H locs (1) (7) (vy_MQ below (xq_i G ai (fun (_ : Nat → Nat) => (st_W ai sa u0.1 (ml_C ai s0 b0 sa ma rf u0.2 ++ tl))) r0 A) (xq_X G ai (fun (_ : Nat → Nat) => (st_W ai sa u0.1 (ml_C ai s0 b0 sa ma rf u0.2 ++ tl))) r0 A) args s 4 31 A) (F0 m 28 ls [.int t11]) := by
      intro v9 ml10 t11 H locs ls hF hI hl
      rw [hj28_11] at hF
      refine lv_bipush (v := 6) hx hb dX0_doSweep_28 (by decide) ?_
      refine lv_aload_n hx hb dX0_doSweep_30 rfl (lv_at hl 1 rfl) ?_
      refine st_X0_g_gard_square hC h0 hZ hI hg6 dX0_doSweep_31 ?_
      rcases xg_some hF with ⟨r14, z13, hz16, hF⟩ | ⟨ex15, z13, hx17, hz16, hF⟩
      · refine k_X0_x_allow hC h0 hZ hI hz16 (Nat.le_of_ble_eq_true rfl) (Nat.le_of_ble_eq_true rfl) hl.1 (Nat.le_of_ble_eq_true rfl) dX0_doSweep_34 (fun H locs hI => ?_)
        refine lv_aload_n hx hb dX0_doSweep_37 rfl (lv_at hl 1 rfl) ?_
        refine lv_iconst (v := 1) hx hb dX0_doSweep_38 (by decide) ?_
        rcases xg_some hF with ⟨r19, z18, hz21, hF⟩ | ⟨ex20, z18, hx22, hz21, hF⟩
        · refine k_X0_ga_works hC h0 hZ hI hg6 hz21 (Nat.le_of_ble_eq_true rfl) (Nat.le_of_ble_eq_true rfl) hl.1 (Nat.le_of_ble_eq_true rfl) dX0_doSweep_39 (fun H locs hI => ?_)
          refine lv_iload_n hx hb dX0_doSweep_42 rfl (lv_at hl 0 rfl) ?_
          refine lv_iconst (v := 2) hx hb dX0_doSweep_43 (by decide) ?_
          refine lv_iadd hx hb dX0_doSweep_44 ?_
          refine lv_iconst (v := 3) hx hb dX0_doSweep_45 (by decide) ?_
          refine lv_idiv hx hb dX0_doSweep_46 (by decide) ?_
          obtain ⟨x4_23, hx4_23, hF⟩ := lt_some hF
          refine mo_ist4 (lv' := [(4, .int x4_23), (3, .int x3_8), (2, .ref (sa (10 + r2.toNatClampNeg))), (0, .ref (ma 0))]) hx hb hx4_23 dX0_doSweep_47 hl (by decide) rfl (fun ls hl => ?_)
          refine lv_aload_n hx hb dX0_doSweep_49 rfl (lv_at hl 2 rfl) ?_
          refine st_X0_g_gard_bamboo hC h0 hZ hI hg6 dX0_doSweep_50 ?_
          refine lv_iload hx hb dX0_doSweep_53 (lv_at hl 0 rfl) ?_
          obtain ⟨j63_26, hj63_26, hF⟩ := lj_some hF
          have J63 : ∀ (v24 : MS) (ml25 : MS) (t26 : Int32) (H : Heap) (locs : List Loc) (ls : Array Slot), j63_26 v24 ml25 t26 = some (r0, u0) → mo_I G A s.heap (st_W ai sa v24 (ml_C ai s0 b0 sa ma rf ml25 ++ tl)) H locs → lv_has ls 5 [(4, .int x4_23), (3, .int x3_8), (2, .ref (sa (10 + r2.toNatClampNeg))), (0, .ref (ma 0))] → W p l e ({ frames := 7, cells := 4, slots := 31, locals := 156 } : Room) s m args below meth c H locs (3) (23) (vy_MQ below (xq_i G ai (fun (_ : Nat → Nat) => (st_W ai sa u0.1 (ml_C ai s0 b0 sa ma rf u0.2 ++ tl))) r0 A) (xq_X G ai (fun (_ : Nat → Nat) => (st_W ai sa u0.1 (ml_C ai s0 b0 sa ma rf u0.2 ++ tl))) r0 A) args s 4 31 A) (F0 m 63 ls [.int t26]) := by
            intro v24 ml25 t26 H locs ls hF hI hl
            rw [hj63_26] at hF
            refine lv_bipush (v := 7) hx hb dX0_doSweep_63 (by decide) ?_
            refine lv_iload hx hb dX0_doSweep_65 (lv_at hl 0 rfl) ?_
            refine lv_aload_n hx hb dX0_doSweep_67 rfl (lv_at hl 2 rfl) ?_
            refine st_X0_g_gard_bamboo hC h0 hZ hI hg6 dX0_doSweep_68 ?_
            refine lv_isub hx hb dX0_doSweep_71 ?_
            rcases xg_some hF with ⟨r29, z28, hz31, hF⟩ | ⟨ex30, z28, hx32, hz31, hF⟩
            · refine k_X0_x_allow hC h0 hZ hI hz31 (Nat.le_of_ble_eq_true rfl) (Nat.le_of_ble_eq_true rfl) hl.1 (Nat.le_of_ble_eq_true rfl) dX0_doSweep_72 (fun H locs hI => ?_)
              refine lv_aload_n hx hb dX0_doSweep_75 rfl (lv_at hl 2 rfl) ?_
              refine lv_dup hx hb dX0_doSweep_76 rfl ?_
              refine st_X0_g_gard_bamboo hC h0 hZ hI hg6 dX0_doSweep_77 ?_
              refine lv_iload hx hb dX0_doSweep_80 (lv_at hl 0 rfl) ?_
              refine lv_isub hx hb dX0_doSweep_82 ?_
              obtain ⟨v33, hv33, hF⟩ := lt_some hF
              refine st_X0_p_gard_bamboo hC h0 hZ hI hg6 hv33 dX0_doSweep_83 (fun H locs hI => ?_)
              refine lv_aload_n hx hb dX0_doSweep_86 rfl (lv_at hl 2 rfl) ?_
              refine lv_dup hx hb dX0_doSweep_87 rfl ?_
              refine st_X0_g_gard_swept hC h0 hZ hI hg6 dX0_doSweep_88 ?_
              refine lv_iload_n hx hb dX0_doSweep_91 rfl (lv_at hl 1 rfl) ?_
              refine lv_iadd hx hb dX0_doSweep_92 ?_
              obtain ⟨v34, hv34, hF⟩ := lt_some hF
              refine st_X0_p_gard_swept hC h0 hZ hI hg6 hv34 dX0_doSweep_93 (fun H locs hI => ?_)
              refine lv_aload_n hx hb dX0_doSweep_96 rfl (lv_at hl 3 rfl) ?_
              refine ml_X0_g_ml_now hC h0 hZ hI dX0_doSweep_97 ?_
              refine st_X0_g_st_leaves hC h0 hZ hI dX0_doSweep_100 ?_
              refine lv_aload_n hx hb dX0_doSweep_103 rfl (lv_at hl 2 rfl) ?_
              refine st_X0_g_gard_square hC h0 hZ hI hg6 dX0_doSweep_104 ?_
              refine lv_iconst (v := 0) hx hb dX0_doSweep_107 (by decide) ?_
              obtain ⟨hg35, hF⟩ := gd_some hF
              obtain ⟨v36, hv36, hF⟩ := lt_some hF
              refine st_s_leaves hC hI hg35 hv36 dX0_doSweep_108 (fun H locs hI => ?_)
              refine lv_iload_n hx hb dX0_doSweep_109 rfl (lv_at hl 1 rfl) ?_
              cases hF
              exact xz_iret (na := fun _ => 0) hC hr rfl hI rfl (by first | exact Nat.le_of_ble_eq_true rfl | omega) (by first | exact Nat.le_of_ble_eq_true rfl | omega) dX0_doSweep_110
            · cases hF
              exact k_X0_x_allow_x hC h0 hZ hI hz31 hx32 (Nat.le_of_ble_eq_true rfl) (Nat.le_of_ble_eq_true rfl) hl.1 (Nat.le_of_ble_eq_true rfl) dX0_doSweep_72 (fun da H locs hI => xz_out (na := fun _ => 0) hC hxt hI hx32 (by first | exact Nat.le_of_ble_eq_true rfl | omega) (by first | exact Nat.le_of_ble_eq_true rfl | omega))
          refine lv_icmp_lt (tgt := 62) hx hb dX0_doSweep_55 (by decide) (fun c37 => ?_) (fun c37 => ?_)
          · have hF := if_t hF c37
            refine lv_iconst (v := 0) hx hb dX0_doSweep_62 (by decide) ?_
            exact J63 _ _ _ _ _ _ hF hI (lv_sub hl [0, 1, 2, 3] rfl)
          · have hF := if_f hF c37
            refine lv_iconst (v := 1) hx hb dX0_doSweep_58 (by decide) ?_
            refine lv_goto (tgt := 63) hx hb dX0_doSweep_59 (by decide) ?_
            exact J63 _ _ _ _ _ _ hF hI (lv_sub hl [0, 1, 2, 3] rfl)
        · cases hF
          exact k_X0_ga_works_x hC h0 hZ hI hg6 hz21 hx22 (Nat.le_of_ble_eq_true rfl) (Nat.le_of_ble_eq_true rfl) hl.1 (Nat.le_of_ble_eq_true rfl) dX0_doSweep_39 (fun da H locs hI => xz_out (na := fun _ => 0) hC hxt hI hx22 (by first | exact Nat.le_of_ble_eq_true rfl | omega) (by first | exact Nat.le_of_ble_eq_true rfl | omega))
      · cases hF
        exact k_X0_x_allow_x hC h0 hZ hI hz16 hx17 (Nat.le_of_ble_eq_true rfl) (Nat.le_of_ble_eq_true rfl) hl.1 (Nat.le_of_ble_eq_true rfl) dX0_doSweep_34 (fun da H locs hI => xz_out (na := fun _ => 0) hC hxt hI hx17 (by first | exact Nat.le_of_ble_eq_true rfl | omega) (by first | exact Nat.le_of_ble_eq_true rfl | omega))
    refine lv_if_le (tgt := 27) hx hb dX0_doSweep_20 (by decide) (fun c38 => ?_) (fun c38 => ?_)
    · have hF := if_t hF c38
      refine lv_iconst (v := 0) hx hb dX0_doSweep_27 (by decide) ?_
      exact J28 _ _ _ _ _ _ hF hI (lv_sub hl [0, 1, 2] rfl)
    · have hF := if_f hF c38
      refine lv_iconst (v := 1) hx hb dX0_doSweep_23 (by decide) ?_
      refine lv_goto (tgt := 28) hx hb dX0_doSweep_24 (by decide) ?_
      exact J28 _ _ _ _ _ _ hF hI (lv_sub hl [0, 1, 2] rfl)
  · cases hF
    exact k_X0_ml_gardenerAt_x hC h0 hZ hI hz4 hx5 (Nat.le_of_ble_eq_true rfl) (Nat.le_of_ble_eq_true rfl) hl.1 (Nat.le_of_ble_eq_true rfl) dX0_doSweep_2 (fun da H locs hI => xz_out (na := fun _ => 0) hC hxt hI hx5 (by first | exact Nat.le_of_ble_eq_true rfl | omega) (by first | exact Nat.le_of_ble_eq_true rfl | omega))
theorem k_X0_ml_doSweep {p : Program} {l : Launch} {e : Env} {R : Room} {s s0 : State} {b0 : Addr} {m : MethodId} {args : Array Value} {below : List Frame} {meth : Method} {c : Code} {H : Heap} {locs : List Loc} {cells slots : Nat} {Q : State → Prop} {pc : Nat} {ls : Array Slot} {rest : List Value} {G : va_G} {ai : Nat → ClassId} {A : Nat → Prop} {cc : ByteArray} {nL f L kc ks : Nat} {sa ma : Nat → Nat} {rf : Value} {tl : va_W}  {v : MS} {ml : MS} {a1 : Int32} {r1 : Int32} {u1 : MS × MS}  (hC : mo_C p R s m args meth c G ai A RX0 cc nL f L kc ks) (h0 : mo_S0 s0 b0) (hZ : mo_Z s0 A s) (hI : mo_I G A s.heap (st_W ai sa v (ml_C ai s0 b0 sa ma rf ml ++ tl)) H locs) (hz : f_ml_doSweep v ml a1 = some (mxO r1, u1)) (hf : 7 + 1 ≤ f) (hL : 8 + (5 + 11) + 156 ≤ L) (hsz : ls.size = nL) (hW : (rest.map fun v => v.category).sum ≤ 8) (hdg : decode cc pc = .ok (.invokevirtual 289, 3)) (kk : ∀ (H1 : Heap) (locs1 : List Loc), mo_I G A s.heap (st_W ai sa u1.1 (ml_C ai s0 b0 sa ma rf u1.2 ++ tl)) H1 locs1 → W p l e R s m args below meth c H1 locs1 (cells + 4) (slots + 31) Q (F0 m (pc + 3) ls (.int r1 :: rest))) (hc0 : cells + 4 ≤ kc := by first | exact Nat.le_of_ble_eq_true rfl | omega) (hs0 : slots + 31 ≤ ks := by first | exact Nat.le_of_ble_eq_true rfl | omega) : W p l e R s m args below meth c H locs cells slots Q (F0 m pc ls (.int a1 :: .ref (ma 0) :: rest)) :=
  xz_usei hC.2.2.2.2.2.2.2.1 hI (vy_runV (As := [.int a1]) (rest := rest) ⟨hC.1, hC.2.1, hC.2.2.1, hC.2.2.2.1, hC.2.2.2.2.1⟩ (w_ml_doSweep l G ai h0 v ml a1 (mxO r1) u1 hz H.size) (cwV 1 hC.2.2.2.2.1 (lw_V q1009 q1011 qs23 q115 q1012) rfl rfl rfl (by decide +kernel) ⟨Nat.le_trans hf hC.2.2.2.2.2.2.2.2.1, Nat.le_trans hL hC.2.2.2.2.2.2.2.2.2.1⟩) ⟨gz_blind, (va_recv hC.2.2.2.2.2.2.1 hI.1 (ci := 1) (q0 := 18) rfl rfl), gz_pre0 hC hZ hI⟩ rfl rfl hsz rfl (lv_room hW) hdg ⟨Nat.le_trans hc0 hC.2.2.2.2.2.2.2.2.2.2.1, Nat.le_trans hs0 hC.2.2.2.2.2.2.2.2.2.2.2⟩) rfl (fun na1 H1 locs1 hI1 => kk H1 locs1 hI1)
theorem k_X0_ml_doSweep_x {p : Program} {l : Launch} {e : Env} {R : Room} {s s0 : State} {b0 : Addr} {m : MethodId} {args : Array Value} {below : List Frame} {meth : Method} {c : Code} {H : Heap} {locs : List Loc} {cells slots : Nat} {Q : State → Prop} {pc : Nat} {ls : Array Slot} {rest : List Value} {G : va_G} {ai : Nat → ClassId} {A : Nat → Prop} {cc : ByteArray} {nL f L kc ks : Nat} {sa ma : Nat → Nat} {rf : Value} {tl : va_W}  {v : MS} {ml : MS} {a1 : Int32} {x1 : MX} {u1 : MS × MS}  (hC : mo_C p R s m args meth c G ai A RX0 cc nL f L kc ks) (h0 : mo_S0 s0 b0) (hZ : mo_Z s0 A s) (hI : mo_I G A s.heap (st_W ai sa v (ml_C ai s0 b0 sa ma rf ml ++ tl)) H locs) (hz : f_ml_doSweep v ml a1 = some (x1, u1)) (hx1 : isX x1 = true) (hf : 7 + 1 ≤ f) (hL : 8 + (5 + 11) + 156 ≤ L) (hsz : ls.size = nL) (hW : (rest.map fun v => v.category).sum ≤ 8) (hdg : decode cc pc = .ok (.invokevirtual 289, 3)) (kk : ∀ (da : Nat → Nat) (H1 : Heap) (locs1 : List Loc), mo_I G A s.heap (ex_W x1 da ++ (st_W ai sa u1.1 (ml_C ai s0 b0 sa ma rf u1.2 ++ tl))) H1 locs1 → vy_W p l e R s m args below meth c H1 locs1 (cells + 4) (slots + 31) Q (F0 m pc ls (rest)) (da 0)) (hc0 : cells + 4 ≤ kc := by first | exact Nat.le_of_ble_eq_true rfl | omega) (hs0 : slots + 31 ≤ ks := by first | exact Nat.le_of_ble_eq_true rfl | omega) : W p l e R s m args below meth c H locs cells slots Q (F0 m pc ls (.int a1 :: .ref (ma 0) :: rest)) :=
  xz_usex hC.2.2.2.2.2.2.2.1 hI (vy_runV (As := [.int a1]) (rest := rest) ⟨hC.1, hC.2.1, hC.2.2.1, hC.2.2.2.1, hC.2.2.2.2.1⟩ (w_ml_doSweep l G ai h0 v ml a1 x1 u1 hz H.size) (cwV 1 hC.2.2.2.2.1 (lw_V q1009 q1011 qs23 q115 q1012) rfl rfl rfl (by decide +kernel) ⟨Nat.le_trans hf hC.2.2.2.2.2.2.2.2.1, Nat.le_trans hL hC.2.2.2.2.2.2.2.2.2.1⟩) ⟨gz_blind, (va_recv hC.2.2.2.2.2.2.1 hI.1 (ci := 1) (q0 := 18) rfl rfl), gz_pre0 hC hZ hI⟩ rfl rfl hsz rfl (lv_room hW) hdg ⟨Nat.le_trans hc0 hC.2.2.2.2.2.2.2.2.2.2.1, Nat.le_trans hs0 hC.2.2.2.2.2.2.2.2.2.2.2⟩) xz_noi hx1 (fun na1 da H1 locs1 hI1 => kk da H1 locs1 hI1)
def f_ml_doBind (v : MS) (ml : MS) (a1 : Int32) : Option ((MX × MS × MS)) := xg (f_ml_gardenerAt v ml a1) (fun z1 => (z1.1, z1.2)) (fun r2 z1 => gd (gi r2 4) (xg (f_ga_works z1.1 r2 2) (fun z7 => (z7, z1.2)) (fun r8 z7 => lt ((z7 (6 + r2.toNatClampNeg) 2)) (fun x3_12 => lt (rup z7 (6 + r2.toNatClampNeg) (upd (z7 (6 + r2.toNatClampNeg)) 2 12)) (fun v13 => some (mxO x3_12, (v13, z1.2)))))))
set_option maxHeartbeats 4000000 in
theorem w_ml_doBind (l : Launch) (G : va_G) (ai : Nat → ClassId) {s0 : State} {b0 : Addr} (h0 : mo_S0 s0 b0) {sa ma : Nat → Nat} {rf : Value} {tl : va_W} (v : MS) (ml : MS) (a1 : Int32) (r0 : MX) (u0 : MS × MS) (hF : f_ml_doBind v ml a1 = some (r0, u0)) : xz_Met l G ai s0 yX0_doBind cX0_doBind 4 (some .int) ({ frames := 7, cells := 2, slots := 15, locals := 156 } : Room) [.ref (ma 0), .int a1] (st_W ai sa v (ml_C ai s0 b0 sa ma rf ml ++ tl)) (fun A => xq_i G ai (fun (_ : Nat → Nat) => (st_W ai sa u0.1 (ml_C ai s0 b0 sa ma rf u0.2 ++ tl))) r0 A) r0 (fun (_ : Nat → Nat) => (st_W ai sa u0.1 (ml_C ai s0 b0 sa ma rf u0.2 ++ tl))) 2 15 := by
  refine xz_body (Qc := fun A => xq_i G ai (fun (_ : Nat → Nat) => (st_W ai sa u0.1 (ml_C ai s0 b0 sa ma rf u0.2 ++ tl))) r0 A) (by decide) (Nat.le_of_ble_eq_true rfl) ?_
  intro p e s m args below meth c A ls hC hZ hr hI hl hxt
  have hx := hC.1
  have hb := hC.2.1
  have hl : lv_has ls 4 [(0, .ref (ma 0)), (1, .int a1)] := hl
  show W p l e _ s m args below meth c s.heap [] 0 0 (vy_MQ below (xq_i G ai (fun (_ : Nat → Nat) => (st_W ai sa u0.1 (ml_C ai s0 b0 sa ma rf u0.2 ++ tl))) r0 A) (xq_X G ai (fun (_ : Nat → Nat) => (st_W ai sa u0.1 (ml_C ai s0 b0 sa ma rf u0.2 ++ tl))) r0 A) args s 2 15 A) (F0 m 0 ls [])
  rw [f_ml_doBind] at hF
  refine lv_aload_n hx hb dX0_doBind_0 rfl (lv_at hl 0 rfl) ?_
  refine lv_iload_n hx hb dX0_doBind_1 rfl (lv_at hl 1 rfl) ?_
  rcases xg_some hF with ⟨r2, z1, hz4, hF⟩ | ⟨ex3, z1, hx5, hz4, hF⟩
  · obtain ⟨hg6, hF⟩ := gd_some hF
    refine k_X0_ml_gardenerAt hC h0 hZ hI hz4 (Nat.le_of_ble_eq_true rfl) (Nat.le_of_ble_eq_true rfl) hl.1 (Nat.le_of_ble_eq_true rfl) dX0_doBind_2 (fun H locs hI => ?_)
    refine lv_astore_n (lv' := [(2, .ref (sa (10 + r2.toNatClampNeg))), (0, .ref (ma 0)), (1, .int a1)]) hx hb dX0_doBind_5 rfl hl (by decide) rfl (fun ls hl => ?_)
    refine lv_aload_n hx hb dX0_doBind_6 rfl (lv_at hl 0 rfl) ?_
    refine lv_iconst (v := 2) hx hb dX0_doBind_7 (by decide) ?_
    rcases xg_some hF with ⟨r8, z7, hz10, hF⟩ | ⟨ex9, z7, hx11, hz10, hF⟩
    · refine k_X0_ga_works hC h0 hZ hI hg6 hz10 (Nat.le_of_ble_eq_true rfl) (Nat.le_of_ble_eq_true rfl) hl.1 (Nat.le_of_ble_eq_true rfl) dX0_doBind_8 (fun H locs hI => ?_)
      refine lv_aload_n hx hb dX0_doBind_11 rfl (lv_at hl 0 rfl) ?_
      refine st_X0_g_gard_bamboo hC h0 hZ hI hg6 dX0_doBind_12 ?_
      obtain ⟨x3_12, hx3_12, hF⟩ := lt_some hF
      refine mo_ist (lv' := [(3, .int x3_12), (2, .ref (sa (10 + r2.toNatClampNeg))), (0, .ref (ma 0)), (1, .int a1)]) hx hb hx3_12 dX0_doBind_15 rfl hl (by decide) rfl (fun ls hl => ?_)
      refine lv_aload_n hx hb dX0_doBind_16 rfl (lv_at hl 1 rfl) ?_
      refine lv_bipush (v := 12) hx hb dX0_doBind_17 (by decide) ?_
      obtain ⟨v13, hv13, hF⟩ := lt_some hF
      refine st_X0_p_gard_bamboo hC h0 hZ hI hg6 hv13 dX0_doBind_19 (fun H locs hI => ?_)
      refine lv_iload_n hx hb dX0_doBind_22 rfl (lv_at hl 0 rfl) ?_
      cases hF
      exact xz_iret (na := fun _ => 0) hC hr rfl hI rfl (by first | exact Nat.le_of_ble_eq_true rfl | omega) (by first | exact Nat.le_of_ble_eq_true rfl | omega) dX0_doBind_23
    · cases hF
      exact k_X0_ga_works_x hC h0 hZ hI hg6 hz10 hx11 (Nat.le_of_ble_eq_true rfl) (Nat.le_of_ble_eq_true rfl) hl.1 (Nat.le_of_ble_eq_true rfl) dX0_doBind_8 (fun da H locs hI => xz_out (na := fun _ => 0) hC hxt hI hx11 (by first | exact Nat.le_of_ble_eq_true rfl | omega) (by first | exact Nat.le_of_ble_eq_true rfl | omega))
  · cases hF
    exact k_X0_ml_gardenerAt_x hC h0 hZ hI hz4 hx5 (Nat.le_of_ble_eq_true rfl) (Nat.le_of_ble_eq_true rfl) hl.1 (Nat.le_of_ble_eq_true rfl) dX0_doBind_2 (fun da H locs hI => xz_out (na := fun _ => 0) hC hxt hI hx5 (by first | exact Nat.le_of_ble_eq_true rfl | omega) (by first | exact Nat.le_of_ble_eq_true rfl | omega))
theorem k_X0_ml_doBind {p : Program} {l : Launch} {e : Env} {R : Room} {s s0 : State} {b0 : Addr} {m : MethodId} {args : Array Value} {below : List Frame} {meth : Method} {c : Code} {H : Heap} {locs : List Loc} {cells slots : Nat} {Q : State → Prop} {pc : Nat} {ls : Array Slot} {rest : List Value} {G : va_G} {ai : Nat → ClassId} {A : Nat → Prop} {cc : ByteArray} {nL f L kc ks : Nat} {sa ma : Nat → Nat} {rf : Value} {tl : va_W}  {v : MS} {ml : MS} {a1 : Int32} {r1 : Int32} {u1 : MS × MS}  (hC : mo_C p R s m args meth c G ai A RX0 cc nL f L kc ks) (h0 : mo_S0 s0 b0) (hZ : mo_Z s0 A s) (hI : mo_I G A s.heap (st_W ai sa v (ml_C ai s0 b0 sa ma rf ml ++ tl)) H locs) (hz : f_ml_doBind v ml a1 = some (mxO r1, u1)) (hf : 7 + 1 ≤ f) (hL : 8 + (4 + 11) + 156 ≤ L) (hsz : ls.size = nL) (hW : (rest.map fun v => v.category).sum ≤ 8) (hdg : decode cc pc = .ok (.invokevirtual 292, 3)) (kk : ∀ (H1 : Heap) (locs1 : List Loc), mo_I G A s.heap (st_W ai sa u1.1 (ml_C ai s0 b0 sa ma rf u1.2 ++ tl)) H1 locs1 → W p l e R s m args below meth c H1 locs1 (cells + 2) (slots + 15) Q (F0 m (pc + 3) ls (.int r1 :: rest))) (hc0 : cells + 2 ≤ kc := by first | exact Nat.le_of_ble_eq_true rfl | omega) (hs0 : slots + 15 ≤ ks := by first | exact Nat.le_of_ble_eq_true rfl | omega) : W p l e R s m args below meth c H locs cells slots Q (F0 m pc ls (.int a1 :: .ref (ma 0) :: rest)) :=
  xz_usei hC.2.2.2.2.2.2.2.1 hI (vy_runV (As := [.int a1]) (rest := rest) ⟨hC.1, hC.2.1, hC.2.2.1, hC.2.2.2.1, hC.2.2.2.2.1⟩ (w_ml_doBind l G ai h0 v ml a1 (mxO r1) u1 hz H.size) (cwV 1 hC.2.2.2.2.1 (lw_V q1017 q1019 qs24 q115 q1020) rfl rfl rfl (by decide +kernel) ⟨Nat.le_trans hf hC.2.2.2.2.2.2.2.2.1, Nat.le_trans hL hC.2.2.2.2.2.2.2.2.2.1⟩) ⟨gz_blind, (va_recv hC.2.2.2.2.2.2.1 hI.1 (ci := 1) (q0 := 18) rfl rfl), gz_pre0 hC hZ hI⟩ rfl rfl hsz rfl (lv_room hW) hdg ⟨Nat.le_trans hc0 hC.2.2.2.2.2.2.2.2.2.2.1, Nat.le_trans hs0 hC.2.2.2.2.2.2.2.2.2.2.2⟩) rfl (fun na1 H1 locs1 hI1 => kk H1 locs1 hI1)
theorem k_X0_ml_doBind_x {p : Program} {l : Launch} {e : Env} {R : Room} {s s0 : State} {b0 : Addr} {m : MethodId} {args : Array Value} {below : List Frame} {meth : Method} {c : Code} {H : Heap} {locs : List Loc} {cells slots : Nat} {Q : State → Prop} {pc : Nat} {ls : Array Slot} {rest : List Value} {G : va_G} {ai : Nat → ClassId} {A : Nat → Prop} {cc : ByteArray} {nL f L kc ks : Nat} {sa ma : Nat → Nat} {rf : Value} {tl : va_W}  {v : MS} {ml : MS} {a1 : Int32} {x1 : MX} {u1 : MS × MS}  (hC : mo_C p R s m args meth c G ai A RX0 cc nL f L kc ks) (h0 : mo_S0 s0 b0) (hZ : mo_Z s0 A s) (hI : mo_I G A s.heap (st_W ai sa v (ml_C ai s0 b0 sa ma rf ml ++ tl)) H locs) (hz : f_ml_doBind v ml a1 = some (x1, u1)) (hx1 : isX x1 = true) (hf : 7 + 1 ≤ f) (hL : 8 + (4 + 11) + 156 ≤ L) (hsz : ls.size = nL) (hW : (rest.map fun v => v.category).sum ≤ 8) (hdg : decode cc pc = .ok (.invokevirtual 292, 3)) (kk : ∀ (da : Nat → Nat) (H1 : Heap) (locs1 : List Loc), mo_I G A s.heap (ex_W x1 da ++ (st_W ai sa u1.1 (ml_C ai s0 b0 sa ma rf u1.2 ++ tl))) H1 locs1 → vy_W p l e R s m args below meth c H1 locs1 (cells + 2) (slots + 15) Q (F0 m pc ls (rest)) (da 0)) (hc0 : cells + 2 ≤ kc := by first | exact Nat.le_of_ble_eq_true rfl | omega) (hs0 : slots + 15 ≤ ks := by first | exact Nat.le_of_ble_eq_true rfl | omega) : W p l e R s m args below meth c H locs cells slots Q (F0 m pc ls (.int a1 :: .ref (ma 0) :: rest)) :=
  xz_usex hC.2.2.2.2.2.2.2.1 hI (vy_runV (As := [.int a1]) (rest := rest) ⟨hC.1, hC.2.1, hC.2.2.1, hC.2.2.2.1, hC.2.2.2.2.1⟩ (w_ml_doBind l G ai h0 v ml a1 x1 u1 hz H.size) (cwV 1 hC.2.2.2.2.1 (lw_V q1017 q1019 qs24 q115 q1020) rfl rfl rfl (by decide +kernel) ⟨Nat.le_trans hf hC.2.2.2.2.2.2.2.2.1, Nat.le_trans hL hC.2.2.2.2.2.2.2.2.2.1⟩) ⟨gz_blind, (va_recv hC.2.2.2.2.2.2.1 hI.1 (ci := 1) (q0 := 18) rfl rfl), gz_pre0 hC hZ hI⟩ rfl rfl hsz rfl (lv_room hW) hdg ⟨Nat.le_trans hc0 hC.2.2.2.2.2.2.2.2.2.2.1, Nat.le_trans hs0 hC.2.2.2.2.2.2.2.2.2.2.2⟩) xz_noi hx1 (fun na1 da H1 locs1 hI1 => kk da H1 locs1 hI1)
def f_ml_doTrap (v : MS) (ml : MS) (a1 : Int32) : Option ((MX × MS × MS)) := xg (f_ml_gardenerAt v ml a1) (fun z1 => (z1.1, z1.2)) (fun r2 z1 => gd (gi r2 4) (ov (bs_get (z1.1 4) (z1.1 (6 + r2.toNatClampNeg) 0)) (fun r7 => lj (fun (v9 : MS) (ml10 : MS) (t11 : Int32) => xg (f_allow t11 2 (v9 (6 + r2.toNatClampNeg) 0)) (fun z13 => (v9, ml10)) (fun r14 z13 => lj (fun (v18 : MS) (ml19 : MS) (t20 : Int32) => xg (f_allow t20 9 (v18 (6 + r2.toNatClampNeg) 0)) (fun z22 => (v18, ml19)) (fun r23 z22 => xg (f_ga_works v18 r2 1) (fun z27 => (z27, ml19)) (fun r28 z27 => gd (gi (z27 (6 + r2.toNatClampNeg) 0) 30) (lt (rup z27 5 (upd (z27 5) (z27 (6 + r2.toNatClampNeg) 0).toNatClampNeg 1)) (fun v33 => lt (rup v33 0 (upd (v33 0) 11 ((v33 0 11) - 1))) (fun v34 => some (mxO (v34 0 11), (v34, ml19)))))))) (fun j68_20 => lj (fun (v35 : MS) (ml36 : MS) => j68_20 v35 ml36 0) (fun j67_36 => if (v9 0 11) ≤ 0 then (j67_36 v9 ml10) else (ov (bs_get (v9 5) (v9 (6 + r2.toNatClampNeg) 0)) (fun r39 => if r39 = 0 then (j68_20 v9 ml10 1) else (j67_36 v9 ml10))))))) (fun j28_11 => if r7 = 0 then (j28_11 z1.1 z1.2 1) else (j28_11 z1.1 z1.2 0)))))
set_option maxHeartbeats 4000000 in
theorem w_ml_doTrap (l : Launch) (G : va_G) (ai : Nat → ClassId) {s0 : State} {b0 : Addr} (h0 : mo_S0 s0 b0) {sa ma : Nat → Nat} {rf : Value} {tl : va_W} (v : MS) (ml : MS) (a1 : Int32) (r0 : MX) (u0 : MS × MS) (hF : f_ml_doTrap v ml a1 = some (r0, u0)) : xz_Met l G ai s0 yX0_doTrap cX0_doTrap 3 (some .int) ({ frames := 7, cells := 4, slots := 31, locals := 156 } : Room) [.ref (ma 0), .int a1] (st_W ai sa v (ml_C ai s0 b0 sa ma rf ml ++ tl)) (fun A => xq_i G ai (fun (_ : Nat → Nat) => (st_W ai sa u0.1 (ml_C ai s0 b0 sa ma rf u0.2 ++ tl))) r0 A) r0 (fun (_ : Nat → Nat) => (st_W ai sa u0.1 (ml_C ai s0 b0 sa ma rf u0.2 ++ tl))) 4 31 := by
  refine xz_body (Qc := fun A => xq_i G ai (fun (_ : Nat → Nat) => (st_W ai sa u0.1 (ml_C ai s0 b0 sa ma rf u0.2 ++ tl))) r0 A) (by decide) (Nat.le_of_ble_eq_true rfl) ?_
  intro p e s m args below meth c A ls hC hZ hr hI hl hxt
  have hx := hC.1
  have hb := hC.2.1
  have hl : lv_has ls 3 [(0, .ref (ma 0)), (1, .int a1)] := hl
  show W p l e _ s m args below meth c s.heap [] 0 0 (vy_MQ below (xq_i G ai (fun (_ : Nat → Nat) => (st_W ai sa u0.1 (ml_C ai s0 b0 sa ma rf u0.2 ++ tl))) r0 A) (xq_X G ai (fun (_ : Nat → Nat) => (st_W ai sa u0.1 (ml_C ai s0 b0 sa ma rf u0.2 ++ tl))) r0 A) args s 4 31 A) (F0 m 0 ls [])
  rw [f_ml_doTrap] at hF
  refine lv_aload_n hx hb dX0_doTrap_0 rfl (lv_at hl 0 rfl) ?_
  refine lv_iload_n hx hb dX0_doTrap_1 rfl (lv_at hl 1 rfl) ?_
  rcases xg_some hF with ⟨r2, z1, hz4, hF⟩ | ⟨ex3, z1, hx5, hz4, hF⟩
  · obtain ⟨hg6, hF⟩ := gd_some hF
    refine k_X0_ml_gardenerAt hC h0 hZ hI hz4 (Nat.le_of_ble_eq_true rfl) (Nat.le_of_ble_eq_true rfl) hl.1 (Nat.le_of_ble_eq_true rfl) dX0_doTrap_2 (fun H locs hI => ?_)
    refine lv_astore_n (lv' := [(2, .ref (sa (10 + r2.toNatClampNeg))), (0, .ref (ma 0)), (1, .int a1)]) hx hb dX0_doTrap_5 rfl hl (by decide) rfl (fun ls hl => ?_)
    refine lv_aload_n hx hb dX0_doTrap_6 rfl (lv_at hl 1 rfl) ?_
    refine ml_X0_g_ml_now hC h0 hZ hI dX0_doTrap_7 ?_
    refine st_X0_g_st_stones hC h0 hZ hI dX0_doTrap_10 ?_
    refine lv_aload_n hx hb dX0_doTrap_13 rfl (lv_at hl 0 rfl) ?_
    refine st_X0_g_gard_square hC h0 hZ hI hg6 dX0_doTrap_14 ?_
    obtain ⟨r7, hz8, hF⟩ := ov_some hF
    refine st_X0_stones_get hC h0 hZ hI hz8 (Nat.le_of_ble_eq_true rfl) (Nat.le_of_ble_eq_true rfl) hl.1 (Nat.le_of_ble_eq_true rfl) dX0_doTrap_17 ?_
    obtain ⟨j28_11, hj28_11, hF⟩ := lj_some hF
    have J28 : ∀ (v9 : MS) (ml10 : MS) (t11 : Int32) (H : Heap) (locs : List Loc) (ls : Array Slot), j28_11 v9 ml10 t11 = some (r0, u0) → mo_I G A s.heap (st_W ai sa v9 (ml_C ai s0 b0 sa ma rf ml10 ++ tl)) H locs → lv_has ls 3 [(2, .ref (sa (10 + r2.toNatClampNeg))), (0, .ref (ma 0))] → W p l e ({ frames := 7, cells := 4, slots := 31, locals := 156 } : Room) s m args below meth c H locs (1) (7) (vy_MQ below (xq_i G ai (fun (_ : Nat → Nat) => (st_W ai sa u0.1 (ml_C ai s0 b0 sa ma rf u0.2 ++ tl))) r0 A) (xq_X G ai (fun (_ : Nat → Nat) => (st_W ai sa u0.1 (ml_C ai s0 b0 sa ma rf u0.2 ++ tl))) r0 A) args s 4 31 A) (F0 m 28 ls [.int t11]) := by
      intro v9 ml10 t11 H locs ls hF hI hl
      rw [hj28_11] at hF
      refine lv_iconst (v := 2) hx hb dX0_doTrap_28 (by decide) ?_
      refine lv_aload_n hx hb dX0_doTrap_29 rfl (lv_at hl 0 rfl) ?_
      refine st_X0_g_gard_square hC h0 hZ hI hg6 dX0_doTrap_30 ?_
      rcases xg_some hF with ⟨r14, z13, hz16, hF⟩ | ⟨ex15, z13, hx17, hz16, hF⟩
      · refine k_X0_x_allow hC h0 hZ hI hz16 (Nat.le_of_ble_eq_true rfl) (Nat.le_of_ble_eq_true rfl) hl.1 (Nat.le_of_ble_eq_true rfl) dX0_doTrap_33 (fun H locs hI => ?_)
        refine lv_aload_n hx hb dX0_doTrap_36 rfl (lv_at hl 1 rfl) ?_
        refine ml_X0_g_ml_now hC h0 hZ hI dX0_doTrap_37 ?_
        refine st_X0_g_st_trapsLeft hC h0 hZ hI dX0_doTrap_40 ?_
        obtain ⟨j68_20, hj68_20, hF⟩ := lj_some hF
        have J68 : ∀ (v18 : MS) (ml19 : MS) (t20 : Int32) (H : Heap) (locs : List Loc) (ls : Array Slot), j68_20 v18 ml19 t20 = some (r0, u0) → mo_I G A s.heap (st_W ai sa v18 (ml_C ai s0 b0 sa ma rf ml19 ++ tl)) H locs → lv_has ls 3 [(2, .ref (sa (10 + r2.toNatClampNeg))), (0, .ref (ma 0))] → W p l e ({ frames := 7, cells := 4, slots := 31, locals := 156 } : Room) s m args below meth c H locs (2) (15) (vy_MQ below (xq_i G ai (fun (_ : Nat → Nat) => (st_W ai sa u0.1 (ml_C ai s0 b0 sa ma rf u0.2 ++ tl))) r0 A) (xq_X G ai (fun (_ : Nat → Nat) => (st_W ai sa u0.1 (ml_C ai s0 b0 sa ma rf u0.2 ++ tl))) r0 A) args s 4 31 A) (F0 m 68 ls [.int t20]) := by
          intro v18 ml19 t20 H locs ls hF hI hl
          rw [hj68_20] at hF
          refine lv_bipush (v := 9) hx hb dX0_doTrap_68 (by decide) ?_
          refine lv_aload_n hx hb dX0_doTrap_70 rfl (lv_at hl 0 rfl) ?_
          refine st_X0_g_gard_square hC h0 hZ hI hg6 dX0_doTrap_71 ?_
          rcases xg_some hF with ⟨r23, z22, hz25, hF⟩ | ⟨ex24, z22, hx26, hz25, hF⟩
          · refine k_X0_x_allow hC h0 hZ hI hz25 (Nat.le_of_ble_eq_true rfl) (Nat.le_of_ble_eq_true rfl) hl.1 (Nat.le_of_ble_eq_true rfl) dX0_doTrap_74 (fun H locs hI => ?_)
            refine lv_aload_n hx hb dX0_doTrap_77 rfl (lv_at hl 0 rfl) ?_
            refine lv_iconst (v := 1) hx hb dX0_doTrap_78 (by decide) ?_
            rcases xg_some hF with ⟨r28, z27, hz30, hF⟩ | ⟨ex29, z27, hx31, hz30, hF⟩
            · refine k_X0_ga_works hC h0 hZ hI hg6 hz30 (Nat.le_of_ble_eq_true rfl) (Nat.le_of_ble_eq_true rfl) hl.1 (Nat.le_of_ble_eq_true rfl) dX0_doTrap_79 (fun H locs hI => ?_)
              refine lv_aload_n hx hb dX0_doTrap_82 rfl (lv_at hl 1 rfl) ?_
              refine ml_X0_g_ml_now hC h0 hZ hI dX0_doTrap_83 ?_
              refine st_X0_g_st_traps hC h0 hZ hI dX0_doTrap_86 ?_
              refine lv_aload_n hx hb dX0_doTrap_89 rfl (lv_at hl 0 rfl) ?_
              refine st_X0_g_gard_square hC h0 hZ hI hg6 dX0_doTrap_90 ?_
              obtain ⟨hg32, hF⟩ := gd_some hF
              obtain ⟨v33, hv33, hF⟩ := lt_some hF
              refine st_X0_traps_set hC h0 hZ hI hg32 hv33 (Nat.le_of_ble_eq_true rfl) (Nat.le_of_ble_eq_true rfl) hl.1 (Nat.le_of_ble_eq_true rfl) dX0_doTrap_93 (fun H locs hI => ?_)
              refine lv_aload_n hx hb dX0_doTrap_96 rfl (lv_at hl 1 rfl) ?_
              refine ml_X0_g_ml_now hC h0 hZ hI dX0_doTrap_97 ?_
              refine lv_dup hx hb dX0_doTrap_100 rfl ?_
              refine st_X0_g_st_trapsLeft hC h0 hZ hI dX0_doTrap_101 ?_
              refine lv_iconst (v := 1) hx hb dX0_doTrap_104 (by decide) ?_
              refine lv_isub hx hb dX0_doTrap_105 ?_
              obtain ⟨v34, hv34, hF⟩ := lt_some hF
              refine st_X0_p_st_trapsLeft hC h0 hZ hI hv34 dX0_doTrap_106 (fun H locs hI => ?_)
              refine lv_aload_n hx hb dX0_doTrap_109 rfl (lv_at hl 1 rfl) ?_
              refine ml_X0_g_ml_now hC h0 hZ hI dX0_doTrap_110 ?_
              refine st_X0_g_st_trapsLeft hC h0 hZ hI dX0_doTrap_113 ?_
              cases hF
              exact xz_iret (na := fun _ => 0) hC hr rfl hI rfl (by first | exact Nat.le_of_ble_eq_true rfl | omega) (by first | exact Nat.le_of_ble_eq_true rfl | omega) dX0_doTrap_116
            · cases hF
              exact k_X0_ga_works_x hC h0 hZ hI hg6 hz30 hx31 (Nat.le_of_ble_eq_true rfl) (Nat.le_of_ble_eq_true rfl) hl.1 (Nat.le_of_ble_eq_true rfl) dX0_doTrap_79 (fun da H locs hI => xz_out (na := fun _ => 0) hC hxt hI hx31 (by first | exact Nat.le_of_ble_eq_true rfl | omega) (by first | exact Nat.le_of_ble_eq_true rfl | omega))
          · cases hF
            exact k_X0_x_allow_x hC h0 hZ hI hz25 hx26 (Nat.le_of_ble_eq_true rfl) (Nat.le_of_ble_eq_true rfl) hl.1 (Nat.le_of_ble_eq_true rfl) dX0_doTrap_74 (fun da H locs hI => xz_out (na := fun _ => 0) hC hxt hI hx26 (by first | exact Nat.le_of_ble_eq_true rfl | omega) (by first | exact Nat.le_of_ble_eq_true rfl | omega))
        obtain ⟨j67_36, hj67_36, hF⟩ := lj_some hF
        have J67 : ∀ (v35 : MS) (ml36 : MS) (H : Heap) (locs : List Loc) (ls : Array Slot), j67_36 v35 ml36 = some (r0, u0) → mo_I G A s.heap (st_W ai sa v35 (ml_C ai s0 b0 sa ma rf ml36 ++ tl)) H locs → lv_has ls 3 [(2, .ref (sa (10 + r2.toNatClampNeg))), (0, .ref (ma 0))] → W p l e ({ frames := 7, cells := 4, slots := 31, locals := 156 } : Room) s m args below meth c H locs (2) (15) (vy_MQ below (xq_i G ai (fun (_ : Nat → Nat) => (st_W ai sa u0.1 (ml_C ai s0 b0 sa ma rf u0.2 ++ tl))) r0 A) (xq_X G ai (fun (_ : Nat → Nat) => (st_W ai sa u0.1 (ml_C ai s0 b0 sa ma rf u0.2 ++ tl))) r0 A) args s 4 31 A) (F0 m 67 ls []) := by
          intro v35 ml36 H locs ls hF hI hl
          rw [hj67_36] at hF
          refine lv_iconst (v := 0) hx hb dX0_doTrap_67 (by decide) ?_
          exact J68 _ _ _ _ _ _ hF hI (lv_sub hl [0, 1] rfl)
        refine lv_if_le (tgt := 67) hx hb dX0_doTrap_43 (by decide) (fun c38 => ?_) (fun c38 => ?_)
        · have hF := if_t hF c38
          exact J67 _ _ _ _ _ hF hI (lv_sub hl [0, 1] rfl)
        · have hF := if_f hF c38
          refine lv_aload_n hx hb dX0_doTrap_46 rfl (lv_at hl 1 rfl) ?_
          refine ml_X0_g_ml_now hC h0 hZ hI dX0_doTrap_47 ?_
          refine st_X0_g_st_traps hC h0 hZ hI dX0_doTrap_50 ?_
          refine lv_aload_n hx hb dX0_doTrap_53 rfl (lv_at hl 0 rfl) ?_
          refine st_X0_g_gard_square hC h0 hZ hI hg6 dX0_doTrap_54 ?_
          obtain ⟨r39, hz40, hF⟩ := ov_some hF
          refine st_X0_traps_get hC h0 hZ hI hz40 (Nat.le_of_ble_eq_true rfl) (Nat.le_of_ble_eq_true rfl) hl.1 (Nat.le_of_ble_eq_true rfl) dX0_doTrap_57 ?_
          refine lv_if_ne (tgt := 67) hx hb dX0_doTrap_60 (by decide) (fun c41 => ?_) (fun c41 => ?_)
          · have hF := if_f hF c41
            exact J67 _ _ _ _ _ hF hI (lv_sub hl [0, 1] rfl)
          · have hF := if_t hF c41
            refine lv_iconst (v := 1) hx hb dX0_doTrap_63 (by decide) ?_
            refine lv_goto (tgt := 68) hx hb dX0_doTrap_64 (by decide) ?_
            exact J68 _ _ _ _ _ _ hF hI (lv_sub hl [0, 1] rfl)
      · cases hF
        exact k_X0_x_allow_x hC h0 hZ hI hz16 hx17 (Nat.le_of_ble_eq_true rfl) (Nat.le_of_ble_eq_true rfl) hl.1 (Nat.le_of_ble_eq_true rfl) dX0_doTrap_33 (fun da H locs hI => xz_out (na := fun _ => 0) hC hxt hI hx17 (by first | exact Nat.le_of_ble_eq_true rfl | omega) (by first | exact Nat.le_of_ble_eq_true rfl | omega))
    refine lv_if_ne (tgt := 27) hx hb dX0_doTrap_20 (by decide) (fun c42 => ?_) (fun c42 => ?_)
    · have hF := if_f hF c42
      refine lv_iconst (v := 0) hx hb dX0_doTrap_27 (by decide) ?_
      exact J28 _ _ _ _ _ _ hF hI (lv_sub hl [0, 1] rfl)
    · have hF := if_t hF c42
      refine lv_iconst (v := 1) hx hb dX0_doTrap_23 (by decide) ?_
      refine lv_goto (tgt := 28) hx hb dX0_doTrap_24 (by decide) ?_
      exact J28 _ _ _ _ _ _ hF hI (lv_sub hl [0, 1] rfl)
  · cases hF
    exact k_X0_ml_gardenerAt_x hC h0 hZ hI hz4 hx5 (Nat.le_of_ble_eq_true rfl) (Nat.le_of_ble_eq_true rfl) hl.1 (Nat.le_of_ble_eq_true rfl) dX0_doTrap_2 (fun da H locs hI => xz_out (na := fun _ => 0) hC hxt hI hx5 (by first | exact Nat.le_of_ble_eq_true rfl | omega) (by first | exact Nat.le_of_ble_eq_true rfl | omega))
theorem k_X0_ml_doTrap {p : Program} {l : Launch} {e : Env} {R : Room} {s s0 : State} {b0 : Addr} {m : MethodId} {args : Array Value} {below : List Frame} {meth : Method} {c : Code} {H : Heap} {locs : List Loc} {cells slots : Nat} {Q : State → Prop} {pc : Nat} {ls : Array Slot} {rest : List Value} {G : va_G} {ai : Nat → ClassId} {A : Nat → Prop} {cc : ByteArray} {nL f L kc ks : Nat} {sa ma : Nat → Nat} {rf : Value} {tl : va_W}  {v : MS} {ml : MS} {a1 : Int32} {r1 : Int32} {u1 : MS × MS}  (hC : mo_C p R s m args meth c G ai A RX0 cc nL f L kc ks) (h0 : mo_S0 s0 b0) (hZ : mo_Z s0 A s) (hI : mo_I G A s.heap (st_W ai sa v (ml_C ai s0 b0 sa ma rf ml ++ tl)) H locs) (hz : f_ml_doTrap v ml a1 = some (mxO r1, u1)) (hf : 7 + 1 ≤ f) (hL : 8 + (3 + 11) + 156 ≤ L) (hsz : ls.size = nL) (hW : (rest.map fun v => v.category).sum ≤ 8) (hdg : decode cc pc = .ok (.invokevirtual 298, 3)) (kk : ∀ (H1 : Heap) (locs1 : List Loc), mo_I G A s.heap (st_W ai sa u1.1 (ml_C ai s0 b0 sa ma rf u1.2 ++ tl)) H1 locs1 → W p l e R s m args below meth c H1 locs1 (cells + 4) (slots + 31) Q (F0 m (pc + 3) ls (.int r1 :: rest))) (hc0 : cells + 4 ≤ kc := by first | exact Nat.le_of_ble_eq_true rfl | omega) (hs0 : slots + 31 ≤ ks := by first | exact Nat.le_of_ble_eq_true rfl | omega) : W p l e R s m args below meth c H locs cells slots Q (F0 m pc ls (.int a1 :: .ref (ma 0) :: rest)) :=
  xz_usei hC.2.2.2.2.2.2.2.1 hI (vy_runV (As := [.int a1]) (rest := rest) ⟨hC.1, hC.2.1, hC.2.2.1, hC.2.2.2.1, hC.2.2.2.2.1⟩ (w_ml_doTrap l G ai h0 v ml a1 (mxO r1) u1 hz H.size) (cwV 1 hC.2.2.2.2.1 (lw_V q1025 q1027 qs25 q115 q1028) rfl rfl rfl (by decide +kernel) ⟨Nat.le_trans hf hC.2.2.2.2.2.2.2.2.1, Nat.le_trans hL hC.2.2.2.2.2.2.2.2.2.1⟩) ⟨gz_blind, (va_recv hC.2.2.2.2.2.2.1 hI.1 (ci := 1) (q0 := 18) rfl rfl), gz_pre0 hC hZ hI⟩ rfl rfl hsz rfl (lv_room hW) hdg ⟨Nat.le_trans hc0 hC.2.2.2.2.2.2.2.2.2.2.1, Nat.le_trans hs0 hC.2.2.2.2.2.2.2.2.2.2.2⟩) rfl (fun na1 H1 locs1 hI1 => kk H1 locs1 hI1)
theorem k_X0_ml_doTrap_x {p : Program} {l : Launch} {e : Env} {R : Room} {s s0 : State} {b0 : Addr} {m : MethodId} {args : Array Value} {below : List Frame} {meth : Method} {c : Code} {H : Heap} {locs : List Loc} {cells slots : Nat} {Q : State → Prop} {pc : Nat} {ls : Array Slot} {rest : List Value} {G : va_G} {ai : Nat → ClassId} {A : Nat → Prop} {cc : ByteArray} {nL f L kc ks : Nat} {sa ma : Nat → Nat} {rf : Value} {tl : va_W}  {v : MS} {ml : MS} {a1 : Int32} {x1 : MX} {u1 : MS × MS}  (hC : mo_C p R s m args meth c G ai A RX0 cc nL f L kc ks) (h0 : mo_S0 s0 b0) (hZ : mo_Z s0 A s) (hI : mo_I G A s.heap (st_W ai sa v (ml_C ai s0 b0 sa ma rf ml ++ tl)) H locs) (hz : f_ml_doTrap v ml a1 = some (x1, u1)) (hx1 : isX x1 = true) (hf : 7 + 1 ≤ f) (hL : 8 + (3 + 11) + 156 ≤ L) (hsz : ls.size = nL) (hW : (rest.map fun v => v.category).sum ≤ 8) (hdg : decode cc pc = .ok (.invokevirtual 298, 3)) (kk : ∀ (da : Nat → Nat) (H1 : Heap) (locs1 : List Loc), mo_I G A s.heap (ex_W x1 da ++ (st_W ai sa u1.1 (ml_C ai s0 b0 sa ma rf u1.2 ++ tl))) H1 locs1 → vy_W p l e R s m args below meth c H1 locs1 (cells + 4) (slots + 31) Q (F0 m pc ls (rest)) (da 0)) (hc0 : cells + 4 ≤ kc := by first | exact Nat.le_of_ble_eq_true rfl | omega) (hs0 : slots + 31 ≤ ks := by first | exact Nat.le_of_ble_eq_true rfl | omega) : W p l e R s m args below meth c H locs cells slots Q (F0 m pc ls (.int a1 :: .ref (ma 0) :: rest)) :=
  xz_usex hC.2.2.2.2.2.2.2.1 hI (vy_runV (As := [.int a1]) (rest := rest) ⟨hC.1, hC.2.1, hC.2.2.1, hC.2.2.2.1, hC.2.2.2.2.1⟩ (w_ml_doTrap l G ai h0 v ml a1 x1 u1 hz H.size) (cwV 1 hC.2.2.2.2.1 (lw_V q1025 q1027 qs25 q115 q1028) rfl rfl rfl (by decide +kernel) ⟨Nat.le_trans hf hC.2.2.2.2.2.2.2.2.1, Nat.le_trans hL hC.2.2.2.2.2.2.2.2.2.1⟩) ⟨gz_blind, (va_recv hC.2.2.2.2.2.2.1 hI.1 (ci := 1) (q0 := 18) rfl rfl), gz_pre0 hC hZ hI⟩ rfl rfl hsz rfl (lv_room hW) hdg ⟨Nat.le_trans hc0 hC.2.2.2.2.2.2.2.2.2.2.1, Nat.le_trans hs0 hC.2.2.2.2.2.2.2.2.2.2.2⟩) xz_noi hx1 (fun na1 da H1 locs1 hI1 => kk da H1 locs1 hI1)
def f_ml_doPlant (v : MS) (ml : MS) (a1 : Int32) (a2 : Int32) : Option ((MX × MS × MS)) := xg (f_ml_gardenerAt v ml a1) (fun z1 => (z1.1, z1.2)) (fun r2 z1 => gd (gi r2 4) (xg (f_ml_beside z1.1 z1.2 r2 a2) (fun z7 => (z7.1, z7.2)) (fun r8 z7 => ov (bs_get (z7.1 4) r8) (fun r12 => lj (fun (v14 : MS) (ml15 : MS) (t16 : Int32) => xg (f_allow t16 2 r8) (fun z18 => (v14, ml15)) (fun r19 z18 => gd (gi r8 30) (lj (fun (v24 : MS) (ml25 : MS) (t26 : Int32) => gd (gi r8 30) (xg (f_allow t26 8 (v24 2 r8.toNatClampNeg)) (fun z29 => (v24, ml25)) (fun r30 z29 => xg (f_ga_works v24 r2 3) (fun z34 => (z34, ml25)) (fun r35 z34 => ob (f_st_grows z34 r8 1) (fun r39 u40 => some (mxO r8, (u40, ml25))))))) (fun j58_26 => if (v14 2 r8.toNatClampNeg) = 0 then (j58_26 v14 ml15 1) else (j58_26 v14 ml15 0))))) (fun j34_16 => if r12 = 0 then (j34_16 z7.1 z7.2 1) else (j34_16 z7.1 z7.2 0))))))
set_option maxHeartbeats 4000000 in
theorem w_ml_doPlant (l : Launch) (G : va_G) (ai : Nat → ClassId) {s0 : State} {b0 : Addr} (h0 : mo_S0 s0 b0) {sa ma : Nat → Nat} {rf : Value} {tl : va_W} (v : MS) (ml : MS) (a1 : Int32) (a2 : Int32) (r0 : MX) (u0 : MS × MS) (hF : f_ml_doPlant v ml a1 a2 = some (r0, u0)) : xz_Met l G ai s0 yX0_doPlant cX0_doPlant 5 (some .int) ({ frames := 7, cells := 6, slots := 46, locals := 159 } : Room) [.ref (ma 0), .int a1, .int a2] (st_W ai sa v (ml_C ai s0 b0 sa ma rf ml ++ tl)) (fun A => xq_i G ai (fun (_ : Nat → Nat) => (st_W ai sa u0.1 (ml_C ai s0 b0 sa ma rf u0.2 ++ tl))) r0 A) r0 (fun (_ : Nat → Nat) => (st_W ai sa u0.1 (ml_C ai s0 b0 sa ma rf u0.2 ++ tl))) 6 46 := by
  refine xz_body (Qc := fun A => xq_i G ai (fun (_ : Nat → Nat) => (st_W ai sa u0.1 (ml_C ai s0 b0 sa ma rf u0.2 ++ tl))) r0 A) (by decide) (Nat.le_of_ble_eq_true rfl) ?_
  intro p e s m args below meth c A ls hC hZ hr hI hl hxt
  have hx := hC.1
  have hb := hC.2.1
  have hl : lv_has ls 5 [(0, .ref (ma 0)), (1, .int a1), (2, .int a2)] := hl
  show W p l e _ s m args below meth c s.heap [] 0 0 (vy_MQ below (xq_i G ai (fun (_ : Nat → Nat) => (st_W ai sa u0.1 (ml_C ai s0 b0 sa ma rf u0.2 ++ tl))) r0 A) (xq_X G ai (fun (_ : Nat → Nat) => (st_W ai sa u0.1 (ml_C ai s0 b0 sa ma rf u0.2 ++ tl))) r0 A) args s 6 46 A) (F0 m 0 ls [])
  rw [f_ml_doPlant] at hF
  refine lv_aload_n hx hb dX0_doPlant_0 rfl (lv_at hl 0 rfl) ?_
  refine lv_iload_n hx hb dX0_doPlant_1 rfl (lv_at hl 1 rfl) ?_
  rcases xg_some hF with ⟨r2, z1, hz4, hF⟩ | ⟨ex3, z1, hx5, hz4, hF⟩
  · obtain ⟨hg6, hF⟩ := gd_some hF
    refine k_X0_ml_gardenerAt hC h0 hZ hI hz4 (Nat.le_of_ble_eq_true rfl) (Nat.le_of_ble_eq_true rfl) hl.1 (Nat.le_of_ble_eq_true rfl) dX0_doPlant_2 (fun H locs hI => ?_)
    refine lv_astore_n (lv' := [(3, .ref (sa (10 + r2.toNatClampNeg))), (0, .ref (ma 0)), (1, .int a1), (2, .int a2)]) hx hb dX0_doPlant_5 rfl hl (by decide) rfl (fun ls hl => ?_)
    refine lv_aload_n hx hb dX0_doPlant_6 rfl (lv_at hl 1 rfl) ?_
    refine lv_aload_n hx hb dX0_doPlant_7 rfl (lv_at hl 0 rfl) ?_
    refine lv_iload_n hx hb dX0_doPlant_8 rfl (lv_at hl 3 rfl) ?_
    rcases xg_some hF with ⟨r8, z7, hz10, hF⟩ | ⟨ex9, z7, hx11, hz10, hF⟩
    · refine k_X0_ml_beside hC h0 hZ hI hg6 hz10 (Nat.le_of_ble_eq_true rfl) (Nat.le_of_ble_eq_true rfl) hl.1 (Nat.le_of_ble_eq_true rfl) dX0_doPlant_9 (fun H locs hI => ?_)
      refine mo_ist4 (lv' := [(4, .int r8), (3, .ref (sa (10 + r2.toNatClampNeg))), (0, .ref (ma 0)), (1, .int a1), (2, .int a2)]) hx hb rfl dX0_doPlant_12 hl (by decide) rfl (fun ls hl => ?_)
      refine lv_aload_n hx hb dX0_doPlant_14 rfl (lv_at hl 2 rfl) ?_
      refine ml_X0_g_ml_now hC h0 hZ hI dX0_doPlant_15 ?_
      refine st_X0_g_st_stones hC h0 hZ hI dX0_doPlant_18 ?_
      refine lv_iload hx hb dX0_doPlant_21 (lv_at hl 0 rfl) ?_
      obtain ⟨r12, hz13, hF⟩ := ov_some hF
      refine st_X0_stones_get hC h0 hZ hI hz13 (Nat.le_of_ble_eq_true rfl) (Nat.le_of_ble_eq_true rfl) hl.1 (Nat.le_of_ble_eq_true rfl) dX0_doPlant_23 ?_
      obtain ⟨j34_16, hj34_16, hF⟩ := lj_some hF
      have J34 : ∀ (v14 : MS) (ml15 : MS) (t16 : Int32) (H : Heap) (locs : List Loc) (ls : Array Slot), j34_16 v14 ml15 t16 = some (r0, u0) → mo_I G A s.heap (st_W ai sa v14 (ml_C ai s0 b0 sa ma rf ml15 ++ tl)) H locs → lv_has ls 5 [(4, .int r8), (3, .ref (sa (10 + r2.toNatClampNeg))), (0, .ref (ma 0))] → W p l e ({ frames := 7, cells := 6, slots := 46, locals := 159 } : Room) s m args below meth c H locs (3) (22) (vy_MQ below (xq_i G ai (fun (_ : Nat → Nat) => (st_W ai sa u0.1 (ml_C ai s0 b0 sa ma rf u0.2 ++ tl))) r0 A) (xq_X G ai (fun (_ : Nat → Nat) => (st_W ai sa u0.1 (ml_C ai s0 b0 sa ma rf u0.2 ++ tl))) r0 A) args s 6 46 A) (F0 m 34 ls [.int t16]) := by
        intro v14 ml15 t16 H locs ls hF hI hl
        rw [hj34_16] at hF
        refine lv_iconst (v := 2) hx hb dX0_doPlant_34 (by decide) ?_
        refine lv_iload hx hb dX0_doPlant_35 (lv_at hl 0 rfl) ?_
        rcases xg_some hF with ⟨r19, z18, hz21, hF⟩ | ⟨ex20, z18, hx22, hz21, hF⟩
        · refine k_X0_x_allow hC h0 hZ hI hz21 (Nat.le_of_ble_eq_true rfl) (Nat.le_of_ble_eq_true rfl) hl.1 (Nat.le_of_ble_eq_true rfl) dX0_doPlant_37 (fun H locs hI => ?_)
          refine lv_aload_n hx hb dX0_doPlant_40 rfl (lv_at hl 2 rfl) ?_
          refine ml_X0_g_ml_now hC h0 hZ hI dX0_doPlant_41 ?_
          refine st_X0_g_st_moss hC h0 hZ hI dX0_doPlant_44 ?_
          refine lv_iload hx hb dX0_doPlant_47 (lv_at hl 0 rfl) ?_
          obtain ⟨hg23, hF⟩ := gd_some hF
          refine st_l_moss hC hI hg23 dX0_doPlant_49 ?_
          obtain ⟨j58_26, hj58_26, hF⟩ := lj_some hF
          have J58 : ∀ (v24 : MS) (ml25 : MS) (t26 : Int32) (H : Heap) (locs : List Loc) (ls : Array Slot), j58_26 v24 ml25 t26 = some (r0, u0) → mo_I G A s.heap (st_W ai sa v24 (ml_C ai s0 b0 sa ma rf ml25 ++ tl)) H locs → lv_has ls 5 [(4, .int r8), (3, .ref (sa (10 + r2.toNatClampNeg))), (0, .ref (ma 0))] → W p l e ({ frames := 7, cells := 6, slots := 46, locals := 159 } : Room) s m args below meth c H locs (4) (30) (vy_MQ below (xq_i G ai (fun (_ : Nat → Nat) => (st_W ai sa u0.1 (ml_C ai s0 b0 sa ma rf u0.2 ++ tl))) r0 A) (xq_X G ai (fun (_ : Nat → Nat) => (st_W ai sa u0.1 (ml_C ai s0 b0 sa ma rf u0.2 ++ tl))) r0 A) args s 6 46 A) (F0 m 58 ls [.int t26]) := by
            intro v24 ml25 t26 H locs ls hF hI hl
            rw [hj58_26] at hF
            refine lv_bipush (v := 8) hx hb dX0_doPlant_58 (by decide) ?_
            refine lv_aload_n hx hb dX0_doPlant_60 rfl (lv_at hl 2 rfl) ?_
            refine ml_X0_g_ml_now hC h0 hZ hI dX0_doPlant_61 ?_
            refine st_X0_g_st_moss hC h0 hZ hI dX0_doPlant_64 ?_
            refine lv_iload hx hb dX0_doPlant_67 (lv_at hl 0 rfl) ?_
            obtain ⟨hg28, hF⟩ := gd_some hF
            refine st_l_moss hC hI hg28 dX0_doPlant_69 ?_
            rcases xg_some hF with ⟨r30, z29, hz32, hF⟩ | ⟨ex31, z29, hx33, hz32, hF⟩
            · refine k_X0_x_allow hC h0 hZ hI hz32 (Nat.le_of_ble_eq_true rfl) (Nat.le_of_ble_eq_true rfl) hl.1 (Nat.le_of_ble_eq_true rfl) dX0_doPlant_70 (fun H locs hI => ?_)
              refine lv_aload_n hx hb dX0_doPlant_73 rfl (lv_at hl 1 rfl) ?_
              refine lv_iconst (v := 3) hx hb dX0_doPlant_74 (by decide) ?_
              rcases xg_some hF with ⟨r35, z34, hz37, hF⟩ | ⟨ex36, z34, hx38, hz37, hF⟩
              · refine k_X0_ga_works hC h0 hZ hI hg6 hz37 (Nat.le_of_ble_eq_true rfl) (Nat.le_of_ble_eq_true rfl) hl.1 (Nat.le_of_ble_eq_true rfl) dX0_doPlant_75 (fun H locs hI => ?_)
                refine lv_aload_n hx hb dX0_doPlant_78 rfl (lv_at hl 2 rfl) ?_
                refine ml_X0_g_ml_now hC h0 hZ hI dX0_doPlant_79 ?_
                refine lv_iload hx hb dX0_doPlant_82 (lv_at hl 0 rfl) ?_
                refine lv_iconst (v := 1) hx hb dX0_doPlant_84 (by decide) ?_
                obtain ⟨r39, u40, hz41, hF⟩ := ob_some hF
                refine k_X0_st_grows hC h0 hZ hI hz41 (Nat.le_of_ble_eq_true rfl) (Nat.le_of_ble_eq_true rfl) hl.1 (Nat.le_of_ble_eq_true rfl) dX0_doPlant_85 (fun H locs hI => ?_)
                refine lv_iload hx hb dX0_doPlant_88 (lv_at hl 0 rfl) ?_
                cases hF
                exact xz_iret (na := fun _ => 0) hC hr rfl hI rfl (by first | exact Nat.le_of_ble_eq_true rfl | omega) (by first | exact Nat.le_of_ble_eq_true rfl | omega) dX0_doPlant_90
              · cases hF
                exact k_X0_ga_works_x hC h0 hZ hI hg6 hz37 hx38 (Nat.le_of_ble_eq_true rfl) (Nat.le_of_ble_eq_true rfl) hl.1 (Nat.le_of_ble_eq_true rfl) dX0_doPlant_75 (fun da H locs hI => xz_out (na := fun _ => 0) hC hxt hI hx38 (by first | exact Nat.le_of_ble_eq_true rfl | omega) (by first | exact Nat.le_of_ble_eq_true rfl | omega))
            · cases hF
              exact k_X0_x_allow_x hC h0 hZ hI hz32 hx33 (Nat.le_of_ble_eq_true rfl) (Nat.le_of_ble_eq_true rfl) hl.1 (Nat.le_of_ble_eq_true rfl) dX0_doPlant_70 (fun da H locs hI => xz_out (na := fun _ => 0) hC hxt hI hx33 (by first | exact Nat.le_of_ble_eq_true rfl | omega) (by first | exact Nat.le_of_ble_eq_true rfl | omega))
          refine lv_if_ne (tgt := 57) hx hb dX0_doPlant_50 (by decide) (fun c42 => ?_) (fun c42 => ?_)
          · have hF := if_f hF c42
            refine lv_iconst (v := 0) hx hb dX0_doPlant_57 (by decide) ?_
            exact J58 _ _ _ _ _ _ hF hI (lv_sub hl [0, 1, 2] rfl)
          · have hF := if_t hF c42
            refine lv_iconst (v := 1) hx hb dX0_doPlant_53 (by decide) ?_
            refine lv_goto (tgt := 58) hx hb dX0_doPlant_54 (by decide) ?_
            exact J58 _ _ _ _ _ _ hF hI (lv_sub hl [0, 1, 2] rfl)
        · cases hF
          exact k_X0_x_allow_x hC h0 hZ hI hz21 hx22 (Nat.le_of_ble_eq_true rfl) (Nat.le_of_ble_eq_true rfl) hl.1 (Nat.le_of_ble_eq_true rfl) dX0_doPlant_37 (fun da H locs hI => xz_out (na := fun _ => 0) hC hxt hI hx22 (by first | exact Nat.le_of_ble_eq_true rfl | omega) (by first | exact Nat.le_of_ble_eq_true rfl | omega))
      refine lv_if_ne (tgt := 33) hx hb dX0_doPlant_26 (by decide) (fun c43 => ?_) (fun c43 => ?_)
      · have hF := if_f hF c43
        refine lv_iconst (v := 0) hx hb dX0_doPlant_33 (by decide) ?_
        exact J34 _ _ _ _ _ _ hF hI (lv_sub hl [0, 1, 2] rfl)
      · have hF := if_t hF c43
        refine lv_iconst (v := 1) hx hb dX0_doPlant_29 (by decide) ?_
        refine lv_goto (tgt := 34) hx hb dX0_doPlant_30 (by decide) ?_
        exact J34 _ _ _ _ _ _ hF hI (lv_sub hl [0, 1, 2] rfl)
    · cases hF
      exact k_X0_ml_beside_x hC h0 hZ hI hg6 hz10 hx11 (Nat.le_of_ble_eq_true rfl) (Nat.le_of_ble_eq_true rfl) hl.1 (Nat.le_of_ble_eq_true rfl) dX0_doPlant_9 (fun da H locs hI => xz_out (na := fun _ => 0) hC hxt hI hx11 (by first | exact Nat.le_of_ble_eq_true rfl | omega) (by first | exact Nat.le_of_ble_eq_true rfl | omega))
  · cases hF
    exact k_X0_ml_gardenerAt_x hC h0 hZ hI hz4 hx5 (Nat.le_of_ble_eq_true rfl) (Nat.le_of_ble_eq_true rfl) hl.1 (Nat.le_of_ble_eq_true rfl) dX0_doPlant_2 (fun da H locs hI => xz_out (na := fun _ => 0) hC hxt hI hx5 (by first | exact Nat.le_of_ble_eq_true rfl | omega) (by first | exact Nat.le_of_ble_eq_true rfl | omega))
theorem k_X0_ml_doPlant {p : Program} {l : Launch} {e : Env} {R : Room} {s s0 : State} {b0 : Addr} {m : MethodId} {args : Array Value} {below : List Frame} {meth : Method} {c : Code} {H : Heap} {locs : List Loc} {cells slots : Nat} {Q : State → Prop} {pc : Nat} {ls : Array Slot} {rest : List Value} {G : va_G} {ai : Nat → ClassId} {A : Nat → Prop} {cc : ByteArray} {nL f L kc ks : Nat} {sa ma : Nat → Nat} {rf : Value} {tl : va_W}  {v : MS} {ml : MS} {a1 : Int32} {a2 : Int32} {r1 : Int32} {u1 : MS × MS}  (hC : mo_C p R s m args meth c G ai A RX0 cc nL f L kc ks) (h0 : mo_S0 s0 b0) (hZ : mo_Z s0 A s) (hI : mo_I G A s.heap (st_W ai sa v (ml_C ai s0 b0 sa ma rf ml ++ tl)) H locs) (hz : f_ml_doPlant v ml a1 a2 = some (mxO r1, u1)) (hf : 7 + 1 ≤ f) (hL : 8 + (5 + 11) + 159 ≤ L) (hsz : ls.size = nL) (hW : (rest.map fun v => v.category).sum ≤ 8) (hdg : decode cc pc = .ok (.invokevirtual 304, 3)) (kk : ∀ (H1 : Heap) (locs1 : List Loc), mo_I G A s.heap (st_W ai sa u1.1 (ml_C ai s0 b0 sa ma rf u1.2 ++ tl)) H1 locs1 → W p l e R s m args below meth c H1 locs1 (cells + 6) (slots + 46) Q (F0 m (pc + 3) ls (.int r1 :: rest))) (hc0 : cells + 6 ≤ kc := by first | exact Nat.le_of_ble_eq_true rfl | omega) (hs0 : slots + 46 ≤ ks := by first | exact Nat.le_of_ble_eq_true rfl | omega) : W p l e R s m args below meth c H locs cells slots Q (F0 m pc ls (.int a2 :: .int a1 :: .ref (ma 0) :: rest)) :=
  xz_usei hC.2.2.2.2.2.2.2.1 hI (vy_runV (As := [.int a1, .int a2]) (rest := rest) ⟨hC.1, hC.2.1, hC.2.2.1, hC.2.2.2.1, hC.2.2.2.2.1⟩ (w_ml_doPlant l G ai h0 v ml a1 a2 (mxO r1) u1 hz H.size) (cwV 2 hC.2.2.2.2.1 (lw_V q1033 q1035 qs26 q115 q1036) rfl rfl rfl (by decide +kernel) ⟨Nat.le_trans hf hC.2.2.2.2.2.2.2.2.1, Nat.le_trans hL hC.2.2.2.2.2.2.2.2.2.1⟩) ⟨gz_blind, (va_recv hC.2.2.2.2.2.2.1 hI.1 (ci := 1) (q0 := 18) rfl rfl), gz_pre0 hC hZ hI⟩ rfl rfl hsz rfl (lv_room hW) hdg ⟨Nat.le_trans hc0 hC.2.2.2.2.2.2.2.2.2.2.1, Nat.le_trans hs0 hC.2.2.2.2.2.2.2.2.2.2.2⟩) rfl (fun na1 H1 locs1 hI1 => kk H1 locs1 hI1)
theorem k_X0_ml_doPlant_x {p : Program} {l : Launch} {e : Env} {R : Room} {s s0 : State} {b0 : Addr} {m : MethodId} {args : Array Value} {below : List Frame} {meth : Method} {c : Code} {H : Heap} {locs : List Loc} {cells slots : Nat} {Q : State → Prop} {pc : Nat} {ls : Array Slot} {rest : List Value} {G : va_G} {ai : Nat → ClassId} {A : Nat → Prop} {cc : ByteArray} {nL f L kc ks : Nat} {sa ma : Nat → Nat} {rf : Value} {tl : va_W}  {v : MS} {ml : MS} {a1 : Int32} {a2 : Int32} {x1 : MX} {u1 : MS × MS}  (hC : mo_C p R s m args meth c G ai A RX0 cc nL f L kc ks) (h0 : mo_S0 s0 b0) (hZ : mo_Z s0 A s) (hI : mo_I G A s.heap (st_W ai sa v (ml_C ai s0 b0 sa ma rf ml ++ tl)) H locs) (hz : f_ml_doPlant v ml a1 a2 = some (x1, u1)) (hx1 : isX x1 = true) (hf : 7 + 1 ≤ f) (hL : 8 + (5 + 11) + 159 ≤ L) (hsz : ls.size = nL) (hW : (rest.map fun v => v.category).sum ≤ 8) (hdg : decode cc pc = .ok (.invokevirtual 304, 3)) (kk : ∀ (da : Nat → Nat) (H1 : Heap) (locs1 : List Loc), mo_I G A s.heap (ex_W x1 da ++ (st_W ai sa u1.1 (ml_C ai s0 b0 sa ma rf u1.2 ++ tl))) H1 locs1 → vy_W p l e R s m args below meth c H1 locs1 (cells + 6) (slots + 46) Q (F0 m pc ls (rest)) (da 0)) (hc0 : cells + 6 ≤ kc := by first | exact Nat.le_of_ble_eq_true rfl | omega) (hs0 : slots + 46 ≤ ks := by first | exact Nat.le_of_ble_eq_true rfl | omega) : W p l e R s m args below meth c H locs cells slots Q (F0 m pc ls (.int a2 :: .int a1 :: .ref (ma 0) :: rest)) :=
  xz_usex hC.2.2.2.2.2.2.2.1 hI (vy_runV (As := [.int a1, .int a2]) (rest := rest) ⟨hC.1, hC.2.1, hC.2.2.1, hC.2.2.2.1, hC.2.2.2.2.1⟩ (w_ml_doPlant l G ai h0 v ml a1 a2 x1 u1 hz H.size) (cwV 2 hC.2.2.2.2.1 (lw_V q1033 q1035 qs26 q115 q1036) rfl rfl rfl (by decide +kernel) ⟨Nat.le_trans hf hC.2.2.2.2.2.2.2.2.1, Nat.le_trans hL hC.2.2.2.2.2.2.2.2.2.1⟩) ⟨gz_blind, (va_recv hC.2.2.2.2.2.2.1 hI.1 (ci := 1) (q0 := 18) rfl rfl), gz_pre0 hC hZ hI⟩ rfl rfl hsz rfl (lv_room hW) hdg ⟨Nat.le_trans hc0 hC.2.2.2.2.2.2.2.2.2.2.1, Nat.le_trans hs0 hC.2.2.2.2.2.2.2.2.2.2.2⟩) xz_noi hx1 (fun na1 da H1 locs1 hI1 => kk da H1 locs1 hI1)
def f_ml_doMole (v : MS) (ml : MS) (a1 : Int32) : Option ((MX × MS × MS)) := xg (f_want (p_isSq a1) (-1)) (fun z1 => (v, ml)) (fun r2 z1 => lj (fun (v6 : MS) (ml7 : MS) (t8 : Int32) => xg (f_allow t8 1 3) (fun z10 => (v6, ml7)) (fun r11 z10 => ov (bs_get (v6 4) a1) (fun r15 => lj (fun (v17 : MS) (ml18 : MS) (t19 : Int32) => xg (f_allow t19 2 a1) (fun z21 => (v17, ml18)) (fun r22 z21 => gd (gi (v17 0 8) 3) (ob (f_mol_becomes v17 (v17 0 8) a1) (fun r27 u28 => lt (rup u28 0 (upd (u28 0) 8 ((u28 0 8) + 1))) (fun v30 => some (mxO ((v30 0 8) - 1), (v30, ml18))))))) (fun j48_19 => if r15 = 0 then (j48_19 v6 ml7 1) else (j48_19 v6 ml7 0))))) (fun j24_8 => if 3 ≤ (v 0 8) then (j24_8 v ml 0) else (j24_8 v ml 1)))
set_option maxHeartbeats 4000000 in
theorem w_ml_doMole (l : Launch) (G : va_G) (ai : Nat → ClassId) {s0 : State} {b0 : Addr} (h0 : mo_S0 s0 b0) {sa ma : Nat → Nat} {rf : Value} {tl : va_W} (v : MS) (ml : MS) (a1 : Int32) (r0 : MX) (u0 : MS × MS) (hF : f_ml_doMole v ml a1 = some (r0, u0)) : xz_Met l G ai s0 yX0_doMole cX0_doMole 2 (some .int) ({ frames := 6, cells := 3, slots := 23, locals := 135 } : Room) [.ref (ma 0), .int a1] (st_W ai sa v (ml_C ai s0 b0 sa ma rf ml ++ tl)) (fun A => xq_i G ai (fun (_ : Nat → Nat) => (st_W ai sa u0.1 (ml_C ai s0 b0 sa ma rf u0.2 ++ tl))) r0 A) r0 (fun (_ : Nat → Nat) => (st_W ai sa u0.1 (ml_C ai s0 b0 sa ma rf u0.2 ++ tl))) 3 23 := by
  refine xz_body (Qc := fun A => xq_i G ai (fun (_ : Nat → Nat) => (st_W ai sa u0.1 (ml_C ai s0 b0 sa ma rf u0.2 ++ tl))) r0 A) (by decide) (Nat.le_of_ble_eq_true rfl) ?_
  intro p e s m args below meth c A ls hC hZ hr hI hl hxt
  have hx := hC.1
  have hb := hC.2.1
  have hl : lv_has ls 2 [(0, .ref (ma 0)), (1, .int a1)] := hl
  show W p l e _ s m args below meth c s.heap [] 0 0 (vy_MQ below (xq_i G ai (fun (_ : Nat → Nat) => (st_W ai sa u0.1 (ml_C ai s0 b0 sa ma rf u0.2 ++ tl))) r0 A) (xq_X G ai (fun (_ : Nat → Nat) => (st_W ai sa u0.1 (ml_C ai s0 b0 sa ma rf u0.2 ++ tl))) r0 A) args s 3 23 A) (F0 m 0 ls [])
  rw [f_ml_doMole] at hF
  refine lv_iload_n hx hb dX0_doMole_0 rfl (lv_at hl 1 rfl) ?_
  refine k_X0_isSq (mo_CN hC) (Nat.le_of_ble_eq_true rfl) (Nat.le_of_ble_eq_true rfl) hl.1 (Nat.le_of_ble_eq_true rfl) dX0_doMole_1 ?_
  refine lv_iconst (v := (-1)) hx hb dX0_doMole_4 (by decide) ?_
  rcases xg_some hF with ⟨r2, z1, hz4, hF⟩ | ⟨ex3, z1, hx5, hz4, hF⟩
  · refine k_X0_x_want hC h0 hZ hI hz4 (Nat.le_of_ble_eq_true rfl) (Nat.le_of_ble_eq_true rfl) hl.1 (Nat.le_of_ble_eq_true rfl) dX0_doMole_5 (fun H locs hI => ?_)
    refine lv_aload_n hx hb dX0_doMole_8 rfl (lv_at hl 0 rfl) ?_
    refine ml_X0_g_ml_now hC h0 hZ hI dX0_doMole_9 ?_
    refine st_X0_g_st_moleMany hC h0 hZ hI dX0_doMole_12 ?_
    refine lv_iconst (v := 3) hx hb dX0_doMole_15 (by decide) ?_
    obtain ⟨j24_8, hj24_8, hF⟩ := lj_some hF
    have J24 : ∀ (v6 : MS) (ml7 : MS) (t8 : Int32) (H : Heap) (locs : List Loc) (ls : Array Slot), j24_8 v6 ml7 t8 = some (r0, u0) → mo_I G A s.heap (st_W ai sa v6 (ml_C ai s0 b0 sa ma rf ml7 ++ tl)) H locs → lv_has ls 2 [(0, .ref (ma 0)), (1, .int a1)] → W p l e ({ frames := 6, cells := 3, slots := 23, locals := 135 } : Room) s m args below meth c H locs (1) (7) (vy_MQ below (xq_i G ai (fun (_ : Nat → Nat) => (st_W ai sa u0.1 (ml_C ai s0 b0 sa ma rf u0.2 ++ tl))) r0 A) (xq_X G ai (fun (_ : Nat → Nat) => (st_W ai sa u0.1 (ml_C ai s0 b0 sa ma rf u0.2 ++ tl))) r0 A) args s 3 23 A) (F0 m 24 ls [.int t8]) := by
      intro v6 ml7 t8 H locs ls hF hI hl
      rw [hj24_8] at hF
      refine lv_iconst (v := 1) hx hb dX0_doMole_24 (by decide) ?_
      refine lv_iconst (v := 3) hx hb dX0_doMole_25 (by decide) ?_
      rcases xg_some hF with ⟨r11, z10, hz13, hF⟩ | ⟨ex12, z10, hx14, hz13, hF⟩
      · refine k_X0_x_allow hC h0 hZ hI hz13 (Nat.le_of_ble_eq_true rfl) (Nat.le_of_ble_eq_true rfl) hl.1 (Nat.le_of_ble_eq_true rfl) dX0_doMole_26 (fun H locs hI => ?_)
        refine lv_aload_n hx hb dX0_doMole_29 rfl (lv_at hl 0 rfl) ?_
        refine ml_X0_g_ml_now hC h0 hZ hI dX0_doMole_30 ?_
        refine st_X0_g_st_stones hC h0 hZ hI dX0_doMole_33 ?_
        refine lv_iload_n hx hb dX0_doMole_36 rfl (lv_at hl 1 rfl) ?_
        obtain ⟨r15, hz16, hF⟩ := ov_some hF
        refine st_X0_stones_get hC h0 hZ hI hz16 (Nat.le_of_ble_eq_true rfl) (Nat.le_of_ble_eq_true rfl) hl.1 (Nat.le_of_ble_eq_true rfl) dX0_doMole_37 ?_
        obtain ⟨j48_19, hj48_19, hF⟩ := lj_some hF
        have J48 : ∀ (v17 : MS) (ml18 : MS) (t19 : Int32) (H : Heap) (locs : List Loc) (ls : Array Slot), j48_19 v17 ml18 t19 = some (r0, u0) → mo_I G A s.heap (st_W ai sa v17 (ml_C ai s0 b0 sa ma rf ml18 ++ tl)) H locs → lv_has ls 2 [(0, .ref (ma 0)), (1, .int a1)] → W p l e ({ frames := 6, cells := 3, slots := 23, locals := 135 } : Room) s m args below meth c H locs (2) (15) (vy_MQ below (xq_i G ai (fun (_ : Nat → Nat) => (st_W ai sa u0.1 (ml_C ai s0 b0 sa ma rf u0.2 ++ tl))) r0 A) (xq_X G ai (fun (_ : Nat → Nat) => (st_W ai sa u0.1 (ml_C ai s0 b0 sa ma rf u0.2 ++ tl))) r0 A) args s 3 23 A) (F0 m 48 ls [.int t19]) := by
          intro v17 ml18 t19 H locs ls hF hI hl
          rw [hj48_19] at hF
          refine lv_iconst (v := 2) hx hb dX0_doMole_48 (by decide) ?_
          refine lv_iload_n hx hb dX0_doMole_49 rfl (lv_at hl 1 rfl) ?_
          rcases xg_some hF with ⟨r22, z21, hz24, hF⟩ | ⟨ex23, z21, hx25, hz24, hF⟩
          · refine k_X0_x_allow hC h0 hZ hI hz24 (Nat.le_of_ble_eq_true rfl) (Nat.le_of_ble_eq_true rfl) hl.1 (Nat.le_of_ble_eq_true rfl) dX0_doMole_50 (fun H locs hI => ?_)
            refine lv_aload_n hx hb dX0_doMole_53 rfl (lv_at hl 0 rfl) ?_
            refine ml_X0_g_ml_now hC h0 hZ hI dX0_doMole_54 ?_
            refine st_X0_g_st_moles hC h0 hZ hI dX0_doMole_57 ?_
            refine lv_aload_n hx hb dX0_doMole_60 rfl (lv_at hl 0 rfl) ?_
            refine ml_X0_g_ml_now hC h0 hZ hI dX0_doMole_61 ?_
            refine st_X0_g_st_moleMany hC h0 hZ hI dX0_doMole_64 ?_
            obtain ⟨hg26, hF⟩ := gd_some hF
            refine st_l_moles hC hI hg26 dX0_doMole_67 ?_
            refine lv_iload_n hx hb dX0_doMole_68 rfl (lv_at hl 1 rfl) ?_
            obtain ⟨r27, u28, hz29, hF⟩ := ob_some hF
            refine k_X0_mol_becomes hC h0 hZ hI hg26 hz29 (Nat.le_of_ble_eq_true rfl) (Nat.le_of_ble_eq_true rfl) hl.1 (Nat.le_of_ble_eq_true rfl) dX0_doMole_69 (fun H locs hI => ?_)
            refine lv_aload_n hx hb dX0_doMole_72 rfl (lv_at hl 0 rfl) ?_
            refine ml_X0_g_ml_now hC h0 hZ hI dX0_doMole_73 ?_
            refine lv_dup hx hb dX0_doMole_76 rfl ?_
            refine st_X0_g_st_moleMany hC h0 hZ hI dX0_doMole_77 ?_
            refine lv_iconst (v := 1) hx hb dX0_doMole_80 (by decide) ?_
            refine lv_iadd hx hb dX0_doMole_81 ?_
            obtain ⟨v30, hv30, hF⟩ := lt_some hF
            refine st_X0_p_st_moleMany hC h0 hZ hI hv30 dX0_doMole_82 (fun H locs hI => ?_)
            refine lv_aload_n hx hb dX0_doMole_85 rfl (lv_at hl 0 rfl) ?_
            refine ml_X0_g_ml_now hC h0 hZ hI dX0_doMole_86 ?_
            refine st_X0_g_st_moleMany hC h0 hZ hI dX0_doMole_89 ?_
            refine lv_iconst (v := 1) hx hb dX0_doMole_92 (by decide) ?_
            refine lv_isub hx hb dX0_doMole_93 ?_
            cases hF
            exact xz_iret (na := fun _ => 0) hC hr rfl hI rfl (by first | exact Nat.le_of_ble_eq_true rfl | omega) (by first | exact Nat.le_of_ble_eq_true rfl | omega) dX0_doMole_94
          · cases hF
            exact k_X0_x_allow_x hC h0 hZ hI hz24 hx25 (Nat.le_of_ble_eq_true rfl) (Nat.le_of_ble_eq_true rfl) hl.1 (Nat.le_of_ble_eq_true rfl) dX0_doMole_50 (fun da H locs hI => xz_out (na := fun _ => 0) hC hxt hI hx25 (by first | exact Nat.le_of_ble_eq_true rfl | omega) (by first | exact Nat.le_of_ble_eq_true rfl | omega))
        refine lv_if_ne (tgt := 47) hx hb dX0_doMole_40 (by decide) (fun c31 => ?_) (fun c31 => ?_)
        · have hF := if_f hF c31
          refine lv_iconst (v := 0) hx hb dX0_doMole_47 (by decide) ?_
          exact J48 _ _ _ _ _ _ hF hI (lv_sub hl [0, 1] rfl)
        · have hF := if_t hF c31
          refine lv_iconst (v := 1) hx hb dX0_doMole_43 (by decide) ?_
          refine lv_goto (tgt := 48) hx hb dX0_doMole_44 (by decide) ?_
          exact J48 _ _ _ _ _ _ hF hI (lv_sub hl [0, 1] rfl)
      · cases hF
        exact k_X0_x_allow_x hC h0 hZ hI hz13 hx14 (Nat.le_of_ble_eq_true rfl) (Nat.le_of_ble_eq_true rfl) hl.1 (Nat.le_of_ble_eq_true rfl) dX0_doMole_26 (fun da H locs hI => xz_out (na := fun _ => 0) hC hxt hI hx14 (by first | exact Nat.le_of_ble_eq_true rfl | omega) (by first | exact Nat.le_of_ble_eq_true rfl | omega))
    refine lv_icmp_ge (tgt := 23) hx hb dX0_doMole_16 (by decide) (fun c32 => ?_) (fun c32 => ?_)
    · have hF := if_t hF c32
      refine lv_iconst (v := 0) hx hb dX0_doMole_23 (by decide) ?_
      exact J24 _ _ _ _ _ _ hF hI (lv_sub hl [0, 1] rfl)
    · have hF := if_f hF c32
      refine lv_iconst (v := 1) hx hb dX0_doMole_19 (by decide) ?_
      refine lv_goto (tgt := 24) hx hb dX0_doMole_20 (by decide) ?_
      exact J24 _ _ _ _ _ _ hF hI (lv_sub hl [0, 1] rfl)
  · cases hF
    exact k_X0_x_want_x hC h0 hZ hI hz4 hx5 (Nat.le_of_ble_eq_true rfl) (Nat.le_of_ble_eq_true rfl) hl.1 (Nat.le_of_ble_eq_true rfl) dX0_doMole_5 (fun da H locs hI => xz_out (na := fun _ => 0) hC hxt hI hx5 (by first | exact Nat.le_of_ble_eq_true rfl | omega) (by first | exact Nat.le_of_ble_eq_true rfl | omega))
theorem k_X0_ml_doMole {p : Program} {l : Launch} {e : Env} {R : Room} {s s0 : State} {b0 : Addr} {m : MethodId} {args : Array Value} {below : List Frame} {meth : Method} {c : Code} {H : Heap} {locs : List Loc} {cells slots : Nat} {Q : State → Prop} {pc : Nat} {ls : Array Slot} {rest : List Value} {G : va_G} {ai : Nat → ClassId} {A : Nat → Prop} {cc : ByteArray} {nL f L kc ks : Nat} {sa ma : Nat → Nat} {rf : Value} {tl : va_W}  {v : MS} {ml : MS} {a1 : Int32} {r1 : Int32} {u1 : MS × MS}  (hC : mo_C p R s m args meth c G ai A RX0 cc nL f L kc ks) (h0 : mo_S0 s0 b0) (hZ : mo_Z s0 A s) (hI : mo_I G A s.heap (st_W ai sa v (ml_C ai s0 b0 sa ma rf ml ++ tl)) H locs) (hz : f_ml_doMole v ml a1 = some (mxO r1, u1)) (hf : 6 + 1 ≤ f) (hL : 8 + (2 + 11) + 135 ≤ L) (hsz : ls.size = nL) (hW : (rest.map fun v => v.category).sum ≤ 8) (hdg : decode cc pc = .ok (.invokevirtual 314, 3)) (kk : ∀ (H1 : Heap) (locs1 : List Loc), mo_I G A s.heap (st_W ai sa u1.1 (ml_C ai s0 b0 sa ma rf u1.2 ++ tl)) H1 locs1 → W p l e R s m args below meth c H1 locs1 (cells + 3) (slots + 23) Q (F0 m (pc + 3) ls (.int r1 :: rest))) (hc0 : cells + 3 ≤ kc := by first | exact Nat.le_of_ble_eq_true rfl | omega) (hs0 : slots + 23 ≤ ks := by first | exact Nat.le_of_ble_eq_true rfl | omega) : W p l e R s m args below meth c H locs cells slots Q (F0 m pc ls (.int a1 :: .ref (ma 0) :: rest)) :=
  xz_usei hC.2.2.2.2.2.2.2.1 hI (vy_runV (As := [.int a1]) (rest := rest) ⟨hC.1, hC.2.1, hC.2.2.1, hC.2.2.2.1, hC.2.2.2.2.1⟩ (w_ml_doMole l G ai h0 v ml a1 (mxO r1) u1 hz H.size) (cwV 1 hC.2.2.2.2.1 (lw_V q1046 q1048 qs27 q115 q1049) rfl rfl rfl (by decide +kernel) ⟨Nat.le_trans hf hC.2.2.2.2.2.2.2.2.1, Nat.le_trans hL hC.2.2.2.2.2.2.2.2.2.1⟩) ⟨gz_blind, (va_recv hC.2.2.2.2.2.2.1 hI.1 (ci := 1) (q0 := 18) rfl rfl), gz_pre0 hC hZ hI⟩ rfl rfl hsz rfl (lv_room hW) hdg ⟨Nat.le_trans hc0 hC.2.2.2.2.2.2.2.2.2.2.1, Nat.le_trans hs0 hC.2.2.2.2.2.2.2.2.2.2.2⟩) rfl (fun na1 H1 locs1 hI1 => kk H1 locs1 hI1)
theorem k_X0_ml_doMole_x {p : Program} {l : Launch} {e : Env} {R : Room} {s s0 : State} {b0 : Addr} {m : MethodId} {args : Array Value} {below : List Frame} {meth : Method} {c : Code} {H : Heap} {locs : List Loc} {cells slots : Nat} {Q : State → Prop} {pc : Nat} {ls : Array Slot} {rest : List Value} {G : va_G} {ai : Nat → ClassId} {A : Nat → Prop} {cc : ByteArray} {nL f L kc ks : Nat} {sa ma : Nat → Nat} {rf : Value} {tl : va_W}  {v : MS} {ml : MS} {a1 : Int32} {x1 : MX} {u1 : MS × MS}  (hC : mo_C p R s m args meth c G ai A RX0 cc nL f L kc ks) (h0 : mo_S0 s0 b0) (hZ : mo_Z s0 A s) (hI : mo_I G A s.heap (st_W ai sa v (ml_C ai s0 b0 sa ma rf ml ++ tl)) H locs) (hz : f_ml_doMole v ml a1 = some (x1, u1)) (hx1 : isX x1 = true) (hf : 6 + 1 ≤ f) (hL : 8 + (2 + 11) + 135 ≤ L) (hsz : ls.size = nL) (hW : (rest.map fun v => v.category).sum ≤ 8) (hdg : decode cc pc = .ok (.invokevirtual 314, 3)) (kk : ∀ (da : Nat → Nat) (H1 : Heap) (locs1 : List Loc), mo_I G A s.heap (ex_W x1 da ++ (st_W ai sa u1.1 (ml_C ai s0 b0 sa ma rf u1.2 ++ tl))) H1 locs1 → vy_W p l e R s m args below meth c H1 locs1 (cells + 3) (slots + 23) Q (F0 m pc ls (rest)) (da 0)) (hc0 : cells + 3 ≤ kc := by first | exact Nat.le_of_ble_eq_true rfl | omega) (hs0 : slots + 23 ≤ ks := by first | exact Nat.le_of_ble_eq_true rfl | omega) : W p l e R s m args below meth c H locs cells slots Q (F0 m pc ls (.int a1 :: .ref (ma 0) :: rest)) :=
  xz_usex hC.2.2.2.2.2.2.2.1 hI (vy_runV (As := [.int a1]) (rest := rest) ⟨hC.1, hC.2.1, hC.2.2.1, hC.2.2.2.1, hC.2.2.2.2.1⟩ (w_ml_doMole l G ai h0 v ml a1 x1 u1 hz H.size) (cwV 1 hC.2.2.2.2.1 (lw_V q1046 q1048 qs27 q115 q1049) rfl rfl rfl (by decide +kernel) ⟨Nat.le_trans hf hC.2.2.2.2.2.2.2.2.1, Nat.le_trans hL hC.2.2.2.2.2.2.2.2.2.1⟩) ⟨gz_blind, (va_recv hC.2.2.2.2.2.2.1 hI.1 (ci := 1) (q0 := 18) rfl rfl), gz_pre0 hC hZ hI⟩ rfl rfl hsz rfl (lv_room hW) hdg ⟨Nat.le_trans hc0 hC.2.2.2.2.2.2.2.2.2.2.1, Nat.le_trans hs0 hC.2.2.2.2.2.2.2.2.2.2.2⟩) xz_noi hx1 (fun na1 da H1 locs1 hI1 => kk da H1 locs1 hI1)
def f_ml_doDay_L16 (a1 : Int32) (kont : MS → MS → Int32 → Option (MX × MS × MS)) : Nat → MS → MS → Int32 → Int32 → Option (MX × MS × MS)
  | 0, _, _, _, _ => none
  | n + 1, x_v, x_ml, x3, x2 => if a1 ≤ x3 then (kont x_v x_ml x2) else (ob (f_st_ends x_v) (fun r7 u8 => lt ((x2 + r7)) (fun x2_10 => lt (x3 + 1) (fun x3_11 => f_ml_doDay_L16 a1 kont n u8 x_ml x3_11 x2_10))))
def f_ml_doDay (v : MS) (ml : MS) (a1 : Int32) : Option ((MX × MS × MS)) := xg (f_want (p_within a1 1 20) (-2)) (fun z1 => (v, ml)) (fun r2 z1 => f_ml_doDay_L16 a1 (fun v12 ml13 x2_14 => some (mxO x2_14, (v12, ml13))) 2000 v ml 0 0)
set_option maxHeartbeats 4000000 in
theorem w_ml_doDay_L16 {p : Program} {l : Launch} {e : Env} {R : Room} {s s0 : State} {b0 : Addr} {m : MethodId} {args : Array Value} {below : List Frame} {meth : Method} {c : Code} {G : va_G} {ai : Nat → ClassId} {A : Nat → Prop} {sa ma : Nat → Nat} {rf : Value} {tl : va_W} {r0 : MX} {u0 : MS × MS} (hC : mo_C p R s m args meth c G ai A RX0 cX0_doDay 4 7 155 1 7) (h0 : mo_S0 s0 b0) (hZ : mo_Z s0 A s) (hr : meth.sig.returnType = (some .int)) (hxt : ∀ x ∈ c.exceptionTable.toList, False) (kb sb : Nat) (hkb : kb + 0 ≤ 1) (hsb : sb + 0 ≤ 7) (a1 : Int32) (kont : MS → MS → Int32 → Option (MX × MS × MS)) (K : ∀ (x_v : MS) (x_ml : MS) (x2 : Int32) (H : Heap) (locs : List Loc) (ls : Array Slot), kont x_v x_ml x2 = some (r0, u0) → mo_I G A s.heap (st_W ai sa x_v (ml_C ai s0 b0 sa ma rf x_ml ++ tl)) H locs → lv_has ls 4 [(2, .int x2)] → W p l e R s m args below meth c H locs (kb + 0) (sb + 0) (vy_MQ below (xq_i G ai (fun (_ : Nat → Nat) => (st_W ai sa u0.1 (ml_C ai s0 b0 sa ma rf u0.2 ++ tl))) r0 A) (xq_X G ai (fun (_ : Nat → Nat) => (st_W ai sa u0.1 (ml_C ai s0 b0 sa ma rf u0.2 ++ tl))) r0 A) args s 1 7 A) (F0 m 37 ls [])) :
    ∀ (n : Nat) (hn9 : n ≤ 2000) (x_v : MS) (x_ml : MS) (x3 : Int32) (x2 : Int32) (H : Heap) (locs : List Loc) (ls : Array Slot), f_ml_doDay_L16 a1 kont n x_v x_ml x3 x2 = some (r0, u0) → mo_I G A s.heap (st_W ai sa x_v (ml_C ai s0 b0 sa ma rf x_ml ++ tl)) H locs → lv_has ls 4 [(3, .int x3), (2, .int x2), (0, .ref (ma 0)), (1, .int a1)] → W p l e R s m args below meth c H locs (kb + (0 - n * 0)) (sb + (0 - n * 0)) (vy_MQ below (xq_i G ai (fun (_ : Nat → Nat) => (st_W ai sa u0.1 (ml_C ai s0 b0 sa ma rf u0.2 ++ tl))) r0 A) (xq_X G ai (fun (_ : Nat → Nat) => (st_W ai sa u0.1 (ml_C ai s0 b0 sa ma rf u0.2 ++ tl))) r0 A) args s 1 7 A) (F0 m 16 ls []) := by
  have hx := hC.1
  have hb := hC.2.1
  intro n
  induction n with
  | zero =>
    intro hn9 x_v x_ml x3 x2 H locs ls hF
    have h0 : (none : Option (MX × MS × MS)) = some (r0, u0) := hF
    cases h0
  | succ n ih =>
    intro hn9 x_v x_ml x3 x2 H locs ls hF hI hl
    rw [f_ml_doDay_L16] at hF
    refine lv_iload_n hx hb dX0_doDay_16 rfl (lv_at hl 0 rfl) ?_
    refine lv_iload_n hx hb dX0_doDay_17 rfl (lv_at hl 3 rfl) ?_
    refine lv_icmp_ge (tgt := 37) hx hb dX0_doDay_18 (by decide) (fun c6 => ?_) (fun c6 => ?_)
    · have hF := if_t hF c6
      refine W.widen (k := kb + 0) (n := sb + 0) (by omega) (by omega) ?_
      exact K _ _ _ _ _ _ hF hI (lv_sub hl [1] rfl)
    · have hF := if_f hF c6
      refine lv_iload_n hx hb dX0_doDay_21 rfl (lv_at hl 1 rfl) ?_
      refine lv_aload_n hx hb dX0_doDay_22 rfl (lv_at hl 2 rfl) ?_
      refine ml_X0_g_ml_now hC h0 hZ hI dX0_doDay_23 ?_
      obtain ⟨r7, u8, hz9, hF⟩ := ob_some hF
      refine k_X0_st_ends hC h0 hZ hI hz9 (Nat.le_of_ble_eq_true rfl) (Nat.le_of_ble_eq_true rfl) hl.1 (Nat.le_of_ble_eq_true rfl) dX0_doDay_26 (fun H locs hI => ?_)
      refine lv_iadd hx hb dX0_doDay_29 ?_
      obtain ⟨x2_10, hx2_10, hF⟩ := lt_some hF
      refine mo_ist (lv' := [(2, .int x2_10), (3, .int x3), (0, .ref (ma 0)), (1, .int a1)]) hx hb hx2_10 dX0_doDay_30 rfl hl (by decide) rfl (fun ls hl => ?_)
      obtain ⟨x3_11, hx3_11, hF⟩ := lt_some hF
      refine mo_inc (k := 1) (lv' := [(3, .int x3_11), (2, .int x2_10), (0, .ref (ma 0)), (1, .int a1)]) hx hb hx3_11 (by decide) dX0_doDay_31 hl rfl (by decide) rfl (fun ls hl => ?_)
      refine lv_goto (tgt := 16) hx hb dX0_doDay_34 (by decide) ?_
      refine W.widen (k := kb + (0 - n * 0)) (n := sb + (0 - n * 0)) (by omega) (by omega) ?_
      exact ih (by omega) _ _ _ _ _ _ _ hF hI (lv_sub hl [0, 1, 2, 3] rfl)
set_option maxHeartbeats 4000000 in
theorem w_ml_doDay (l : Launch) (G : va_G) (ai : Nat → ClassId) {s0 : State} {b0 : Addr} (h0 : mo_S0 s0 b0) {sa ma : Nat → Nat} {rf : Value} {tl : va_W} (v : MS) (ml : MS) (a1 : Int32) (r0 : MX) (u0 : MS × MS) (hF : f_ml_doDay v ml a1 = some (r0, u0)) : xz_Met l G ai s0 yX0_doDay cX0_doDay 4 (some .int) ({ frames := 7, cells := 1, slots := 7, locals := 155 } : Room) [.ref (ma 0), .int a1] (st_W ai sa v (ml_C ai s0 b0 sa ma rf ml ++ tl)) (fun A => xq_i G ai (fun (_ : Nat → Nat) => (st_W ai sa u0.1 (ml_C ai s0 b0 sa ma rf u0.2 ++ tl))) r0 A) r0 (fun (_ : Nat → Nat) => (st_W ai sa u0.1 (ml_C ai s0 b0 sa ma rf u0.2 ++ tl))) 1 7 := by
  refine xz_body (Qc := fun A => xq_i G ai (fun (_ : Nat → Nat) => (st_W ai sa u0.1 (ml_C ai s0 b0 sa ma rf u0.2 ++ tl))) r0 A) (by decide) (Nat.le_of_ble_eq_true rfl) ?_
  intro p e s m args below meth c A ls hC hZ hr hI hl hxt
  have hx := hC.1
  have hb := hC.2.1
  have hl : lv_has ls 4 [(0, .ref (ma 0)), (1, .int a1)] := hl
  show W p l e _ s m args below meth c s.heap [] 0 0 (vy_MQ below (xq_i G ai (fun (_ : Nat → Nat) => (st_W ai sa u0.1 (ml_C ai s0 b0 sa ma rf u0.2 ++ tl))) r0 A) (xq_X G ai (fun (_ : Nat → Nat) => (st_W ai sa u0.1 (ml_C ai s0 b0 sa ma rf u0.2 ++ tl))) r0 A) args s 1 7 A) (F0 m 0 ls [])
  rw [f_ml_doDay] at hF
  refine lv_iload_n hx hb dX0_doDay_0 rfl (lv_at hl 1 rfl) ?_
  refine lv_iconst (v := 1) hx hb dX0_doDay_1 (by decide) ?_
  refine lv_bipush (v := 20) hx hb dX0_doDay_2 (by decide) ?_
  refine k_X0_within (mo_CN hC) (Nat.le_of_ble_eq_true rfl) (Nat.le_of_ble_eq_true rfl) hl.1 (Nat.le_of_ble_eq_true rfl) dX0_doDay_4 ?_
  refine lv_bipush (v := (-2)) hx hb dX0_doDay_7 (by decide) ?_
  rcases xg_some hF with ⟨r2, z1, hz4, hF⟩ | ⟨ex3, z1, hx5, hz4, hF⟩
  · refine k_X0_x_want hC h0 hZ hI hz4 (Nat.le_of_ble_eq_true rfl) (Nat.le_of_ble_eq_true rfl) hl.1 (Nat.le_of_ble_eq_true rfl) dX0_doDay_9 (fun H locs hI => ?_)
    refine lv_iconst (v := 0) hx hb dX0_doDay_12 (by decide) ?_
    refine mo_ist (lv' := [(2, .int 0), (0, .ref (ma 0)), (1, .int a1)]) hx hb rfl dX0_doDay_13 rfl hl (by decide) rfl (fun ls hl => ?_)
    refine lv_iconst (v := 0) hx hb dX0_doDay_14 (by decide) ?_
    refine mo_ist (lv' := [(3, .int 0), (2, .int 0), (0, .ref (ma 0)), (1, .int a1)]) hx hb rfl dX0_doDay_15 rfl hl (by decide) rfl (fun ls hl => ?_)
    refine w_ml_doDay_L16 hC h0 hZ hr hxt (1) (7) (by first | exact Nat.le_of_ble_eq_true rfl | omega) (by first | exact Nat.le_of_ble_eq_true rfl | omega) a1 _ (fun v12 ml13 x2_14 H locs ls hF hI hl => ?_) 2000 (Nat.le_of_ble_eq_true rfl) _ _ _ _ _ _ _ hF hI (lv_sub hl [0, 1, 2, 3] rfl)
    refine lv_iload_n hx hb dX0_doDay_37 rfl (lv_at hl 0 rfl) ?_
    cases hF
    exact xz_iret (na := fun _ => 0) hC hr rfl hI rfl (by first | exact Nat.le_of_ble_eq_true rfl | omega) (by first | exact Nat.le_of_ble_eq_true rfl | omega) dX0_doDay_38
  · cases hF
    exact k_X0_x_want_x hC h0 hZ hI hz4 hx5 (Nat.le_of_ble_eq_true rfl) (Nat.le_of_ble_eq_true rfl) hl.1 (Nat.le_of_ble_eq_true rfl) dX0_doDay_9 (fun da H locs hI => xz_out (na := fun _ => 0) hC hxt hI hx5 (by first | exact Nat.le_of_ble_eq_true rfl | omega) (by first | exact Nat.le_of_ble_eq_true rfl | omega))
theorem k_X0_ml_doDay {p : Program} {l : Launch} {e : Env} {R : Room} {s s0 : State} {b0 : Addr} {m : MethodId} {args : Array Value} {below : List Frame} {meth : Method} {c : Code} {H : Heap} {locs : List Loc} {cells slots : Nat} {Q : State → Prop} {pc : Nat} {ls : Array Slot} {rest : List Value} {G : va_G} {ai : Nat → ClassId} {A : Nat → Prop} {cc : ByteArray} {nL f L kc ks : Nat} {sa ma : Nat → Nat} {rf : Value} {tl : va_W}  {v : MS} {ml : MS} {a1 : Int32} {r1 : Int32} {u1 : MS × MS}  (hC : mo_C p R s m args meth c G ai A RX0 cc nL f L kc ks) (h0 : mo_S0 s0 b0) (hZ : mo_Z s0 A s) (hI : mo_I G A s.heap (st_W ai sa v (ml_C ai s0 b0 sa ma rf ml ++ tl)) H locs) (hz : f_ml_doDay v ml a1 = some (mxO r1, u1)) (hf : 7 + 1 ≤ f) (hL : 8 + (4 + 11) + 155 ≤ L) (hsz : ls.size = nL) (hW : (rest.map fun v => v.category).sum ≤ 8) (hdg : decode cc pc = .ok (.invokevirtual 321, 3)) (kk : ∀ (H1 : Heap) (locs1 : List Loc), mo_I G A s.heap (st_W ai sa u1.1 (ml_C ai s0 b0 sa ma rf u1.2 ++ tl)) H1 locs1 → W p l e R s m args below meth c H1 locs1 (cells + 1) (slots + 7) Q (F0 m (pc + 3) ls (.int r1 :: rest))) (hc0 : cells + 1 ≤ kc := by first | exact Nat.le_of_ble_eq_true rfl | omega) (hs0 : slots + 7 ≤ ks := by first | exact Nat.le_of_ble_eq_true rfl | omega) : W p l e R s m args below meth c H locs cells slots Q (F0 m pc ls (.int a1 :: .ref (ma 0) :: rest)) :=
  xz_usei hC.2.2.2.2.2.2.2.1 hI (vy_runV (As := [.int a1]) (rest := rest) ⟨hC.1, hC.2.1, hC.2.2.1, hC.2.2.2.1, hC.2.2.2.2.1⟩ (w_ml_doDay l G ai h0 v ml a1 (mxO r1) u1 hz H.size) (cwV 1 hC.2.2.2.2.1 (lw_V q1058 q1060 qs28 q115 q1061) rfl rfl rfl (by decide +kernel) ⟨Nat.le_trans hf hC.2.2.2.2.2.2.2.2.1, Nat.le_trans hL hC.2.2.2.2.2.2.2.2.2.1⟩) ⟨gz_blind, (va_recv hC.2.2.2.2.2.2.1 hI.1 (ci := 1) (q0 := 18) rfl rfl), gz_pre0 hC hZ hI⟩ rfl rfl hsz rfl (lv_room hW) hdg ⟨Nat.le_trans hc0 hC.2.2.2.2.2.2.2.2.2.2.1, Nat.le_trans hs0 hC.2.2.2.2.2.2.2.2.2.2.2⟩) rfl (fun na1 H1 locs1 hI1 => kk H1 locs1 hI1)
theorem k_X0_ml_doDay_x {p : Program} {l : Launch} {e : Env} {R : Room} {s s0 : State} {b0 : Addr} {m : MethodId} {args : Array Value} {below : List Frame} {meth : Method} {c : Code} {H : Heap} {locs : List Loc} {cells slots : Nat} {Q : State → Prop} {pc : Nat} {ls : Array Slot} {rest : List Value} {G : va_G} {ai : Nat → ClassId} {A : Nat → Prop} {cc : ByteArray} {nL f L kc ks : Nat} {sa ma : Nat → Nat} {rf : Value} {tl : va_W}  {v : MS} {ml : MS} {a1 : Int32} {x1 : MX} {u1 : MS × MS}  (hC : mo_C p R s m args meth c G ai A RX0 cc nL f L kc ks) (h0 : mo_S0 s0 b0) (hZ : mo_Z s0 A s) (hI : mo_I G A s.heap (st_W ai sa v (ml_C ai s0 b0 sa ma rf ml ++ tl)) H locs) (hz : f_ml_doDay v ml a1 = some (x1, u1)) (hx1 : isX x1 = true) (hf : 7 + 1 ≤ f) (hL : 8 + (4 + 11) + 155 ≤ L) (hsz : ls.size = nL) (hW : (rest.map fun v => v.category).sum ≤ 8) (hdg : decode cc pc = .ok (.invokevirtual 321, 3)) (kk : ∀ (da : Nat → Nat) (H1 : Heap) (locs1 : List Loc), mo_I G A s.heap (ex_W x1 da ++ (st_W ai sa u1.1 (ml_C ai s0 b0 sa ma rf u1.2 ++ tl))) H1 locs1 → vy_W p l e R s m args below meth c H1 locs1 (cells + 1) (slots + 7) Q (F0 m pc ls (rest)) (da 0)) (hc0 : cells + 1 ≤ kc := by first | exact Nat.le_of_ble_eq_true rfl | omega) (hs0 : slots + 7 ≤ ks := by first | exact Nat.le_of_ble_eq_true rfl | omega) : W p l e R s m args below meth c H locs cells slots Q (F0 m pc ls (.int a1 :: .ref (ma 0) :: rest)) :=
  xz_usex hC.2.2.2.2.2.2.2.1 hI (vy_runV (As := [.int a1]) (rest := rest) ⟨hC.1, hC.2.1, hC.2.2.1, hC.2.2.2.1, hC.2.2.2.2.1⟩ (w_ml_doDay l G ai h0 v ml a1 x1 u1 hz H.size) (cwV 1 hC.2.2.2.2.1 (lw_V q1058 q1060 qs28 q115 q1061) rfl rfl rfl (by decide +kernel) ⟨Nat.le_trans hf hC.2.2.2.2.2.2.2.2.1, Nat.le_trans hL hC.2.2.2.2.2.2.2.2.2.1⟩) ⟨gz_blind, (va_recv hC.2.2.2.2.2.2.1 hI.1 (ci := 1) (q0 := 18) rfl rfl), gz_pre0 hC hZ hI⟩ rfl rfl hsz rfl (lv_room hW) hdg ⟨Nat.le_trans hc0 hC.2.2.2.2.2.2.2.2.2.2.1, Nat.le_trans hs0 hC.2.2.2.2.2.2.2.2.2.2.2⟩) xz_noi hx1 (fun na1 da H1 locs1 hI1 => kk da H1 locs1 hI1)
def f_ml_sizeFor_L2 (x_v : MS) (x_ml : MS) (kont : Option Int32) : Nat → Int32 → Option Int32
  | 0, _ => none
  | n + 1, x2 => if 5 ≤ x2 then kont else (gd (gi x2 5) (if (x_v 13 x2.toNatClampNeg) ≤ 0 then (lt (x2 + 1) (fun x2_4 => f_ml_sizeFor_L2 x_v x_ml kont n x2_4)) else (some x2)))
def f_ml_sizeFor (v : MS) (ml : MS) (a1 : Int32) : Option Int32 := f_ml_sizeFor_L2 v ml (some (-1)) 2000 a1
set_option maxHeartbeats 4000000 in
theorem w_ml_sizeFor_L2 {p : Program} {l : Launch} {e : Env} {R : Room} {s s0 : State} {b0 : Addr} {m : MethodId} {args : Array Value} {below : List Frame} {meth : Method} {c : Code} {G : va_G} {ai : Nat → ClassId} {A : Nat → Prop} {sa ma : Nat → Nat} {rf : Value} {tl : va_W} {x_v : MS} {x_ml : MS} {r0 : Int32} (hC : mo_C p R s m args meth c G ai A RX0 cX0_sizeFor 3 0 0 0 0) (h0 : mo_S0 s0 b0) (hZ : mo_Z s0 A s) (hr : meth.sig.returnType = (some .int)) (hI0 : mo_I G A s.heap (st_W ai sa x_v (ml_C ai s0 b0 sa ma rf x_ml ++ tl)) s.heap []) (kont : Option Int32) (K : ∀ (ls : Array Slot), kont = some r0 → lv_has ls 3 [] → W p l e R s m args below meth c s.heap [] 0 0 (MQ below (rd_Q (.int r0)) args s 0 0 (fun _ => False)) (F0 m 27 ls [])) :
    ∀ (n : Nat) (x2 : Int32) (ls : Array Slot), f_ml_sizeFor_L2 x_v x_ml kont n x2 = some r0 → lv_has ls 3 [(2, .int x2), (0, .ref (ma 0))] → W p l e R s m args below meth c s.heap [] 0 0 (MQ below (rd_Q (.int r0)) args s 0 0 (fun _ => False)) (F0 m 2 ls []) := by
  have hx := hC.1
  have hb := hC.2.1
  have hI := hI0
  intro n
  induction n with
  | zero =>
    intro x2 ls hF
    have h0 : (none : Option Int32) = some r0 := hF
    cases h0
  | succ n ih =>
    intro x2 ls hF hl
    rw [f_ml_sizeFor_L2] at hF
    refine lv_iload_n hx hb dX0_sizeFor_2 rfl (lv_at hl 0 rfl) ?_
    refine lv_iconst (v := 5) hx hb dX0_sizeFor_3 (by decide) ?_
    refine lv_icmp_ge (tgt := 27) hx hb dX0_sizeFor_4 (by decide) (fun c1 => ?_) (fun c1 => ?_)
    · have hF := if_t hF c1
      exact K _ hF (lv_sub hl [] rfl)
    · have hF := if_f hF c1
      refine lv_aload_n hx hb dX0_sizeFor_7 rfl (lv_at hl 1 rfl) ?_
      refine ml_X0_g_ml_now hC h0 hZ hI dX0_sizeFor_8 ?_
      refine st_X0_g_st_pairs hC h0 hZ hI dX0_sizeFor_11 ?_
      refine lv_iload_n hx hb dX0_sizeFor_14 rfl (lv_at hl 0 rfl) ?_
      obtain ⟨hg2, hF⟩ := gd_some hF
      refine st_l_pairs hC hI hg2 dX0_sizeFor_15 ?_
      refine lv_if_le (tgt := 21) hx hb dX0_sizeFor_16 (by decide) (fun c3 => ?_) (fun c3 => ?_)
      · have hF := if_t hF c3
        obtain ⟨x2_4, hx2_4, hF⟩ := lt_some hF
        refine mo_inc (k := 0) (lv' := [(2, .int x2_4), (0, .ref (ma 0))]) hx hb hx2_4 (by decide) dX0_sizeFor_21 hl rfl (by decide) rfl (fun ls hl => ?_)
        refine lv_goto (tgt := 2) hx hb dX0_sizeFor_24 (by decide) ?_
        exact ih _ _ hF (lv_sub hl [0, 1] rfl)
      · have hF := if_f hF c3
        refine lv_iload_n hx hb dX0_sizeFor_19 rfl (lv_at hl 0 rfl) ?_
        have hF := Option.some.inj hF
        subst hF
        exact rd_iret hC hr rfl dX0_sizeFor_20
set_option maxHeartbeats 4000000 in
theorem w_ml_sizeFor (l : Launch) (G : va_G) (ai : Nat → ClassId) {s0 : State} {b0 : Addr} (h0 : mo_S0 s0 b0) {sa ma : Nat → Nat} {rf : Value} {tl : va_W} (v : MS) (ml : MS) (a1 : Int32) (r0 : Int32) (hF : f_ml_sizeFor v ml a1 = some r0) : rd_Met l G ai s0 yX0_sizeFor cX0_sizeFor 3 (some .int) ({ frames := 0, cells := 0, slots := 0, locals := 0 } : Room) [.ref (ma 0), .int a1] (st_W ai sa v (ml_C ai s0 b0 sa ma rf ml ++ tl)) (.int r0) := by
  refine gz_body (Qc := fun _ => rd_Q (.int r0)) (fr := fun _ _ => False) (by decide) (Nat.le_of_ble_eq_true rfl) ?_
  intro p e s m args below meth c A ls hC hZ hr hI hl hnm
  have hx := hC.1
  have hb := hC.2.1
  have hl : lv_has ls 3 [(0, .ref (ma 0)), (1, .int a1)] := hl
  show W p l e _ s m args below meth c s.heap [] 0 0 (MQ below (rd_Q (.int r0)) args s 0 0 (fun _ => False)) (F0 m 0 ls [])
  rw [f_ml_sizeFor] at hF
  refine lv_iload_n hx hb dX0_sizeFor_0 rfl (lv_at hl 1 rfl) ?_
  refine mo_ist (lv' := [(2, .int a1), (0, .ref (ma 0)), (1, .int a1)]) hx hb rfl dX0_sizeFor_1 rfl hl (by decide) rfl (fun ls hl => ?_)
  refine w_ml_sizeFor_L2 hC h0 hZ hr hI _ (fun ls hF hl => ?_) 2000 _ _ hF (lv_sub hl [0, 1] rfl)
  refine lv_iconst (v := (-1)) hx hb dX0_sizeFor_27 (by decide) ?_
  have hF := Option.some.inj hF
  subst hF
  exact rd_iret hC hr rfl dX0_sizeFor_28
theorem k_X0_ml_sizeFor {p : Program} {l : Launch} {e : Env} {R : Room} {s s0 : State} {b0 : Addr} {m : MethodId} {args : Array Value} {below : List Frame} {meth : Method} {c : Code} {H : Heap} {locs : List Loc} {cells slots : Nat} {Q : State → Prop} {pc : Nat} {ls : Array Slot} {rest : List Value} {G : va_G} {ai : Nat → ClassId} {A : Nat → Prop} {cc : ByteArray} {nL f L kc ks : Nat} {sa ma : Nat → Nat} {rf : Value} {tl : va_W} {v : MS} {ml : MS} {a1 : Int32}  {r1 : Int32} (hC : mo_C p R s m args meth c G ai A RX0 cc nL f L kc ks) (h0 : mo_S0 s0 b0) (hZ : mo_Z s0 A s) (hI : mo_I G A s.heap (st_W ai sa v (ml_C ai s0 b0 sa ma rf ml ++ tl)) H locs) (hz : f_ml_sizeFor v ml a1 = some r1) (hf : 0 + 1 ≤ f) (hL : 8 + (3 + 11) + 0 ≤ L) (hsz : ls.size = nL) (hW : (rest.map fun v => v.category).sum ≤ 8) (hdg : decode cc pc = .ok (.invokevirtual 372, 3)) (kk : W p l e R s m args below meth c H locs cells slots Q (F0 m (pc + 3) ls (.int r1 :: rest))) (hc0 : cells ≤ kc := by first | exact Nat.zero_le _ | exact Nat.le_of_ble_eq_true rfl | assumption | omega) (hs0 : slots ≤ ks := by first | exact Nat.zero_le _ | exact Nat.le_of_ble_eq_true rfl | assumption | omega) : W p l e R s m args below meth c H locs cells slots Q (F0 m pc ls (.int a1 :: .ref (ma 0) :: rest)) :=
  rd_use (va_runV (As := [.int a1]) (rest := rest) ⟨hC.1, hC.2.1, hC.2.2.1, hC.2.2.2.1, hC.2.2.2.2.1⟩ (w_ml_sizeFor l G ai h0 v ml a1 r1 hz H.size) (cwV 1 hC.2.2.2.2.1 (lw_V q1145 q1147 qs32 q115 q1148) rfl rfl rfl (by decide +kernel) ⟨Nat.le_trans hf hC.2.2.2.2.2.2.2.2.1, Nat.le_trans hL hC.2.2.2.2.2.2.2.2.2.1⟩) ⟨gz_blind, (va_recv hC.2.2.2.2.2.2.1 hI.1 (ci := 1) (q0 := 18) rfl rfl), gz_pre0 hC hZ hI⟩ rfl rfl hsz rfl (lv_room hW) hdg ⟨Nat.le_trans hc0 hC.2.2.2.2.2.2.2.2.2.2.1, Nat.le_trans hs0 hC.2.2.2.2.2.2.2.2.2.2.2⟩) kk
def f_ml_isTrodden (v : MS) (ml : MS) (a1 : Int32) : Option ((Int32 × MS × MS)) := gd (gi a1 30) (if (v 2 a1.toNatClampNeg) < 7 then (some (0, (v, ml))) else (ob (f_st_loses v a1 1) (fun r3 u4 => some (0, (u4, ml)))))
set_option maxHeartbeats 4000000 in
theorem w_ml_isTrodden (l : Launch) (G : va_G) (ai : Nat → ClassId) {s0 : State} {b0 : Addr} (h0 : mo_S0 s0 b0) {sa ma : Nat → Nat} {rf : Value} {tl : va_W} (v : MS) (ml : MS) (a1 : Int32) (r0 : Int32) (u0 : MS × MS) (hF : f_ml_isTrodden v ml a1 = some (r0, u0)) : gz_Mv l G ai s0 (fun (u : MS × MS) => (st_W ai sa u.1 (ml_C ai s0 b0 sa ma rf u.2 ++ tl))) yX0_isTrodden cX0_isTrodden 2 ({ frames := 1, cells := 0, slots := 0, locals := 22 } : Room) [.ref (ma 0), .int a1] (st_W ai sa v (ml_C ai s0 b0 sa ma rf ml ++ tl)) (fun (u : MS × MS) => u = u0) 0 0 := by
  refine gz_body (Qc := fun A => va_Qv (fun (u : MS × MS) => u = u0) (gw_E G ai (fun (u : MS × MS) => (st_W ai sa u.1 (ml_C ai s0 b0 sa ma rf u.2 ++ tl))) A) A) (fr := fun A => A) (by decide) (Nat.le_of_ble_eq_true rfl) ?_
  intro p e s m args below meth c A ls hC hZ hr hI hl hnm
  have hx := hC.1
  have hb := hC.2.1
  have hl : lv_has ls 2 [(0, .ref (ma 0)), (1, .int a1)] := hl
  show W p l e _ s m args below meth c s.heap [] 0 0 (MQ below (va_Qv (fun (u : MS × MS) => u = u0) (gw_E G ai (fun (u : MS × MS) => (st_W ai sa u.1 (ml_C ai s0 b0 sa ma rf u.2 ++ tl))) A) A) args s 0 0 A) (F0 m 0 ls [])
  rw [f_ml_isTrodden] at hF
  refine lv_aload_n hx hb dX0_isTrodden_0 rfl (lv_at hl 0 rfl) ?_
  refine ml_X0_g_ml_now hC h0 hZ hI dX0_isTrodden_1 ?_
  refine st_X0_g_st_moss hC h0 hZ hI dX0_isTrodden_4 ?_
  refine lv_iload_n hx hb dX0_isTrodden_7 rfl (lv_at hl 1 rfl) ?_
  obtain ⟨hg1, hF⟩ := gd_some hF
  refine st_l_moss hC hI hg1 dX0_isTrodden_8 ?_
  refine lv_bipush (v := 7) hx hb dX0_isTrodden_9 (by decide) ?_
  refine lv_icmp_lt (tgt := 23) hx hb dX0_isTrodden_11 (by decide) (fun c2 => ?_) (fun c2 => ?_)
  · have hF := if_t hF c2
    cases hF
    exact W.vret hx hb hr (fun t ht hW => ⟨⟨_, rfl, rfl, by rw [ht]; exact hI.1, va_K.moved hW.alike hC.2.2.2.2.2.2.1, hI.2.1⟩, hI.2.2.F ht⟩) hI.2.2.2.2 dX0_isTrodden_23 hC.2.2.2.2.2.1
  · have hF := if_f hF c2
    refine lv_aload_n hx hb dX0_isTrodden_14 rfl (lv_at hl 0 rfl) ?_
    refine ml_X0_g_ml_now hC h0 hZ hI dX0_isTrodden_15 ?_
    refine lv_iload_n hx hb dX0_isTrodden_18 rfl (lv_at hl 1 rfl) ?_
    refine lv_iconst (v := 1) hx hb dX0_isTrodden_19 (by decide) ?_
    obtain ⟨r3, u4, hz5, hF⟩ := ob_some hF
    refine k_X0_st_loses hC h0 hZ hI hz5 (Nat.le_of_ble_eq_true rfl) (Nat.le_of_ble_eq_true rfl) hl.1 (Nat.le_of_ble_eq_true rfl) dX0_isTrodden_20 (fun H locs hI => ?_)
    cases hF
    exact W.vret hx hb hr (fun t ht hW => ⟨⟨_, rfl, rfl, by rw [ht]; exact hI.1, va_K.moved hW.alike hC.2.2.2.2.2.2.1, hI.2.1⟩, hI.2.2.F ht⟩) hI.2.2.2.2 dX0_isTrodden_23 hC.2.2.2.2.2.1
theorem k_X0_ml_isTrodden {p : Program} {l : Launch} {e : Env} {R : Room} {s s0 : State} {b0 : Addr} {m : MethodId} {args : Array Value} {below : List Frame} {meth : Method} {c : Code} {H : Heap} {locs : List Loc} {cells slots : Nat} {Q : State → Prop} {pc : Nat} {ls : Array Slot} {rest : List Value} {G : va_G} {ai : Nat → ClassId} {A : Nat → Prop} {cc : ByteArray} {nL f L kc ks : Nat} {sa ma : Nat → Nat} {rf : Value} {tl : va_W} {v : MS} {ml : MS} {a1 : Int32}  {r1 : Int32} {u1 : MS × MS} (hC : mo_C p R s m args meth c G ai A RX0 cc nL f L kc ks) (h0 : mo_S0 s0 b0) (hZ : mo_Z s0 A s) (hI : mo_I G A s.heap (st_W ai sa v (ml_C ai s0 b0 sa ma rf ml ++ tl)) H locs) (hz : f_ml_isTrodden v ml a1 = some (r1, u1)) (hf : 1 + 1 ≤ f) (hL : 8 + (2 + 11) + 22 ≤ L) (hsz : ls.size = nL) (hW : (rest.map fun v => v.category).sum ≤ 8) (hdg : decode cc pc = .ok (.invokevirtual 378, 3)) (kk : ∀ (H1 : Heap) (locs1 : List Loc), mo_I G A s.heap (st_W ai sa u1.1 (ml_C ai s0 b0 sa ma rf u1.2 ++ tl)) H1 locs1 → W p l e R s m args below meth c H1 locs1 cells slots Q (F0 m (pc + 3) ls (rest))) (hc0 : cells + 0 ≤ kc := by first | exact Nat.zero_le _ | exact Nat.le_of_ble_eq_true rfl | assumption | omega) (hs0 : slots + 0 ≤ ks := by first | exact Nat.zero_le _ | exact Nat.le_of_ble_eq_true rfl | assumption | omega) : W p l e R s m args below meth c H locs cells slots Q (F0 m pc ls (.int a1 :: .ref (ma 0) :: rest)) :=
  gz_usev0 hC.2.2.2.2.2.2.2.1 hI (va_runV (As := [.int a1]) (rest := rest) ⟨hC.1, hC.2.1, hC.2.2.1, hC.2.2.2.1, hC.2.2.2.2.1⟩ (w_ml_isTrodden l G ai h0 v ml a1 r1 u1 hz H.size) (cwV 1 hC.2.2.2.2.1 (lw_V q1618 q1620 qs38 q115 q1621) rfl rfl rfl (by decide +kernel) ⟨Nat.le_trans hf hC.2.2.2.2.2.2.2.2.1, Nat.le_trans hL hC.2.2.2.2.2.2.2.2.2.1⟩) ⟨gz_blind, (va_recv hC.2.2.2.2.2.2.1 hI.1 (ci := 1) (q0 := 18) rfl rfl), gz_pre0 hC hZ hI⟩ rfl rfl hsz rfl (lv_room hW) hdg ⟨Nat.le_trans hc0 hC.2.2.2.2.2.2.2.2.2.2.1, Nat.le_trans hs0 hC.2.2.2.2.2.2.2.2.2.2.2⟩) (fun u H1 locs1 hp hI1 => by cases hp; exact kk H1 locs1 hI1)
def f_ml_gardenerOf (v : MS) (ml : MS) (a1 : Int32) (a2 : Int32) : Option Int32 := if (p_within a1 0 ((v 0 6) - 1)) = 0 then (some (-1)) else (gd (gi a1 4) (if a2 = 0 then (some (v (6 + a1.toNatClampNeg) 0)) else if a2 = 1 then (some (v (6 + a1.toNatClampNeg) 1)) else if a2 = 2 then (some (v (6 + a1.toNatClampNeg) 2)) else if a2 = 3 then (some (v (6 + a1.toNatClampNeg) 3)) else if a2 = 4 then (some (v (6 + a1.toNatClampNeg) 4)) else (some (-2))))
set_option maxHeartbeats 4000000 in
theorem w_ml_gardenerOf (l : Launch) (G : va_G) (ai : Nat → ClassId) {s0 : State} {b0 : Addr} (h0 : mo_S0 s0 b0) {sa ma : Nat → Nat} {rf : Value} {tl : va_W} (v : MS) (ml : MS) (a1 : Int32) (a2 : Int32) (r0 : Int32) (hF : f_ml_gardenerOf v ml a1 a2 = some r0) : rd_Met l G ai s0 yX0_gardenerOf cX0_gardenerOf 4 (some .int) ({ frames := 1, cells := 0, slots := 0, locals := 22 } : Room) [.ref (ma 0), .int a1, .int a2] (st_W ai sa v (ml_C ai s0 b0 sa ma rf ml ++ tl)) (.int r0) := by
  refine gz_body (Qc := fun _ => rd_Q (.int r0)) (fr := fun _ _ => False) (by decide) (Nat.le_of_ble_eq_true rfl) ?_
  intro p e s m args below meth c A ls hC hZ hr hI hl hnm
  have hx := hC.1
  have hb := hC.2.1
  have hl : lv_has ls 4 [(0, .ref (ma 0)), (1, .int a1), (2, .int a2)] := hl
  show W p l e _ s m args below meth c s.heap [] 0 0 (MQ below (rd_Q (.int r0)) args s 0 0 (fun _ => False)) (F0 m 0 ls [])
  rw [f_ml_gardenerOf] at hF
  refine lv_iload_n hx hb dX0_gardenerOf_0 rfl (lv_at hl 1 rfl) ?_
  refine lv_iconst (v := 0) hx hb dX0_gardenerOf_1 (by decide) ?_
  refine lv_aload_n hx hb dX0_gardenerOf_2 rfl (lv_at hl 0 rfl) ?_
  refine ml_X0_g_ml_now hC h0 hZ hI dX0_gardenerOf_3 ?_
  refine st_X0_g_st_gardenerMany hC h0 hZ hI dX0_gardenerOf_6 ?_
  refine lv_iconst (v := 1) hx hb dX0_gardenerOf_9 (by decide) ?_
  refine lv_isub hx hb dX0_gardenerOf_10 ?_
  refine k_X0_within (mo_CN hC) (Nat.le_of_ble_eq_true rfl) (Nat.le_of_ble_eq_true rfl) hl.1 (Nat.le_of_ble_eq_true rfl) dX0_gardenerOf_11 ?_
  refine lv_if_ne (tgt := 19) hx hb dX0_gardenerOf_14 (by decide) (fun c1 => ?_) (fun c1 => ?_)
  · have hF := if_f hF c1
    refine lv_aload_n hx hb dX0_gardenerOf_19 rfl (lv_at hl 0 rfl) ?_
    refine ml_X0_g_ml_now hC h0 hZ hI dX0_gardenerOf_20 ?_
    refine st_X0_g_st_gardeners hC h0 hZ hI dX0_gardenerOf_23 ?_
    refine lv_iload_n hx hb dX0_gardenerOf_26 rfl (lv_at hl 1 rfl) ?_
    obtain ⟨hg2, hF⟩ := gd_some hF
    refine st_l_gards hC hI hg2 dX0_gardenerOf_27 ?_
    refine lv_astore_n (lv' := [(3, .ref (sa (10 + a1.toNatClampNeg))), (0, .ref (ma 0)), (1, .int a1), (2, .int a2)]) hx hb dX0_gardenerOf_28 rfl hl (by decide) rfl (fun ls hl => ?_)
    refine lv_iload_n hx hb dX0_gardenerOf_29 rfl (lv_at hl 3 rfl) ?_
    by_cases c3 : a2 = 0
    · have hF := if_t hF c3
      refine lv_tableIn (tgt := 64) (off := 34) hx hb dX0_gardenerOf_30 (by rw [c3]; decide) (by rw [c3]; decide) (by rw [c3]; rfl) (by decide) ?_
      refine lv_aload_n hx hb dX0_gardenerOf_64 rfl (lv_at hl 0 rfl) ?_
      refine st_X0_g_gard_square hC h0 hZ hI hg2 dX0_gardenerOf_65 ?_
      have hF := Option.some.inj hF
      subst hF
      exact rd_iret hC hr rfl dX0_gardenerOf_68
    have hF := if_f hF c3
    by_cases c4 : a2 = 1
    · have hF := if_t hF c4
      refine lv_tableIn (tgt := 69) (off := 39) hx hb dX0_gardenerOf_30 (by rw [c4]; decide) (by rw [c4]; decide) (by rw [c4]; rfl) (by decide) ?_
      refine lv_aload_n hx hb dX0_gardenerOf_69 rfl (lv_at hl 0 rfl) ?_
      refine st_X0_g_gard_hours hC h0 hZ hI hg2 dX0_gardenerOf_70 ?_
      have hF := Option.some.inj hF
      subst hF
      exact rd_iret hC hr rfl dX0_gardenerOf_73
    have hF := if_f hF c4
    by_cases c5 : a2 = 2
    · have hF := if_t hF c5
      refine lv_tableIn (tgt := 74) (off := 44) hx hb dX0_gardenerOf_30 (by rw [c5]; decide) (by rw [c5]; decide) (by rw [c5]; rfl) (by decide) ?_
      refine lv_aload_n hx hb dX0_gardenerOf_74 rfl (lv_at hl 0 rfl) ?_
      refine st_X0_g_gard_bamboo hC h0 hZ hI hg2 dX0_gardenerOf_75 ?_
      have hF := Option.some.inj hF
      subst hF
      exact rd_iret hC hr rfl dX0_gardenerOf_78
    have hF := if_f hF c5
    by_cases c6 : a2 = 3
    · have hF := if_t hF c6
      refine lv_tableIn (tgt := 79) (off := 49) hx hb dX0_gardenerOf_30 (by rw [c6]; decide) (by rw [c6]; decide) (by rw [c6]; rfl) (by decide) ?_
      refine lv_aload_n hx hb dX0_gardenerOf_79 rfl (lv_at hl 0 rfl) ?_
      refine st_X0_g_gard_swept hC h0 hZ hI hg2 dX0_gardenerOf_80 ?_
      have hF := Option.some.inj hF
      subst hF
      exact rd_iret hC hr rfl dX0_gardenerOf_83
    have hF := if_f hF c6
    by_cases c7 : a2 = 4
    · have hF := if_t hF c7
      refine lv_tableIn (tgt := 84) (off := 54) hx hb dX0_gardenerOf_30 (by rw [c7]; decide) (by rw [c7]; decide) (by rw [c7]; rfl) (by decide) ?_
      refine lv_aload_n hx hb dX0_gardenerOf_84 rfl (lv_at hl 0 rfl) ?_
      refine st_X0_g_gard_steps hC h0 hZ hI hg2 dX0_gardenerOf_85 ?_
      have hF := Option.some.inj hF
      subst hF
      exact rd_iret hC hr rfl dX0_gardenerOf_88
    have hF := if_f hF c7
    refine lv_tableOut (tgt := 89) hx hb dX0_gardenerOf_30 (sw_out 0 5 (by decide) (by decide) (fun k hk => ?_)) (by decide) ?_
    · match k, hk with
      | 0, _ => exact fun h => c3 (h.trans (by decide))
      | 1, _ => exact fun h => c4 (h.trans (by decide))
      | 2, _ => exact fun h => c5 (h.trans (by decide))
      | 3, _ => exact fun h => c6 (h.trans (by decide))
      | 4, _ => exact fun h => c7 (h.trans (by decide))
      | k + 5, hk => exact absurd hk (by omega)
    refine lv_bipush (v := (-2)) hx hb dX0_gardenerOf_89 (by decide) ?_
    have hF := Option.some.inj hF
    subst hF
    exact rd_iret hC hr rfl dX0_gardenerOf_91
  · have hF := if_t hF c1
    refine lv_iconst (v := (-1)) hx hb dX0_gardenerOf_17 (by decide) ?_
    have hF := Option.some.inj hF
    subst hF
    exact rd_iret hC hr rfl dX0_gardenerOf_18
theorem k_L_ml_gardenerOf {p : Program} {l : Launch} {e : Env} {R : Room} {s s0 : State} {b0 : Addr} {m : MethodId} {args : Array Value} {below : List Frame} {meth : Method} {c : Code} {H : Heap} {locs : List Loc} {cells slots : Nat} {Q : State → Prop} {pc : Nat} {ls : Array Slot} {rest : List Value} {G : va_G} {ai : Nat → ClassId} {A : Nat → Prop} {cc : ByteArray} {nL f L kc ks : Nat} {sa ma : Nat → Nat} {rf : Value} {tl : va_W} {v : MS} {ml : MS} {a1 : Int32} {a2 : Int32}  {r1 : Int32} (hC : mo_C p R s m args meth c G ai A RL cc nL f L kc ks) (h0 : mo_S0 s0 b0) (hZ : mo_Z s0 A s) (hI : mo_I G A s.heap (st_W ai sa v (ml_C ai s0 b0 sa ma rf ml ++ tl)) H locs) (hz : f_ml_gardenerOf v ml a1 a2 = some r1) (hf : 1 + 1 ≤ f) (hL : 8 + (4 + 11) + 22 ≤ L) (hsz : ls.size = nL) (hW : (rest.map fun v => v.category).sum ≤ 8) (hdg : decode cc pc = .ok (.invokevirtual 96, 3)) (kk : W p l e R s m args below meth c H locs cells slots Q (F0 m (pc + 3) ls (.int r1 :: rest))) (hc0 : cells ≤ kc := by first | exact Nat.zero_le _ | exact Nat.le_of_ble_eq_true rfl | assumption | omega) (hs0 : slots ≤ ks := by first | exact Nat.zero_le _ | exact Nat.le_of_ble_eq_true rfl | assumption | omega) : W p l e R s m args below meth c H locs cells slots Q (F0 m pc ls (.int a2 :: .int a1 :: .ref (ma 0) :: rest)) :=
  rd_use (va_runV (As := [.int a1, .int a2]) (rest := rest) ⟨hC.1, hC.2.1, hC.2.2.1, hC.2.2.2.1, hC.2.2.2.2.1⟩ (w_ml_gardenerOf l G ai h0 v ml a1 a2 r1 hz H.size) (cwV 2 hC.2.2.2.2.1 (lw_V q1838 q1839 q1840 q115 q1841) rfl rfl rfl (by decide +kernel) ⟨Nat.le_trans hf hC.2.2.2.2.2.2.2.2.1, Nat.le_trans hL hC.2.2.2.2.2.2.2.2.2.1⟩) ⟨gz_blind, (va_recv hC.2.2.2.2.2.2.1 hI.1 (ci := 1) (q0 := 18) rfl rfl), gz_pre0 hC hZ hI⟩ rfl rfl hsz rfl (lv_room hW) hdg ⟨Nat.le_trans hc0 hC.2.2.2.2.2.2.2.2.2.2.1, Nat.le_trans hs0 hC.2.2.2.2.2.2.2.2.2.2.2⟩) kk
def f_ml_moleOf (v : MS) (ml : MS) (a1 : Int32) (a2 : Int32) : Option Int32 := if (p_within a1 0 ((v 0 8) - 1)) = 0 then (some (-1)) else (gd (gi a1 3) (if a2 = 0 then (some (v (10 + a1.toNatClampNeg) 0)) else (if a2 = 1 then (if (v (10 + a1.toNatClampNeg) 1) = 0 then (some 0) else (some 1)) else (if a2 = 2 then (some (v (10 + a1.toNatClampNeg) 2)) else (some (-2))))))
set_option maxHeartbeats 4000000 in
theorem w_ml_moleOf (l : Launch) (G : va_G) (ai : Nat → ClassId) {s0 : State} {b0 : Addr} (h0 : mo_S0 s0 b0) {sa ma : Nat → Nat} {rf : Value} {tl : va_W} (v : MS) (ml : MS) (a1 : Int32) (a2 : Int32) (r0 : Int32) (hF : f_ml_moleOf v ml a1 a2 = some r0) : rd_Met l G ai s0 yX0_moleOf cX0_moleOf 4 (some .int) ({ frames := 1, cells := 0, slots := 0, locals := 22 } : Room) [.ref (ma 0), .int a1, .int a2] (st_W ai sa v (ml_C ai s0 b0 sa ma rf ml ++ tl)) (.int r0) := by
  refine gz_body (Qc := fun _ => rd_Q (.int r0)) (fr := fun _ _ => False) (by decide) (Nat.le_of_ble_eq_true rfl) ?_
  intro p e s m args below meth c A ls hC hZ hr hI hl hnm
  have hx := hC.1
  have hb := hC.2.1
  have hl : lv_has ls 4 [(0, .ref (ma 0)), (1, .int a1), (2, .int a2)] := hl
  show W p l e _ s m args below meth c s.heap [] 0 0 (MQ below (rd_Q (.int r0)) args s 0 0 (fun _ => False)) (F0 m 0 ls [])
  rw [f_ml_moleOf] at hF
  refine lv_iload_n hx hb dX0_moleOf_0 rfl (lv_at hl 1 rfl) ?_
  refine lv_iconst (v := 0) hx hb dX0_moleOf_1 (by decide) ?_
  refine lv_aload_n hx hb dX0_moleOf_2 rfl (lv_at hl 0 rfl) ?_
  refine ml_X0_g_ml_now hC h0 hZ hI dX0_moleOf_3 ?_
  refine st_X0_g_st_moleMany hC h0 hZ hI dX0_moleOf_6 ?_
  refine lv_iconst (v := 1) hx hb dX0_moleOf_9 (by decide) ?_
  refine lv_isub hx hb dX0_moleOf_10 ?_
  refine k_X0_within (mo_CN hC) (Nat.le_of_ble_eq_true rfl) (Nat.le_of_ble_eq_true rfl) hl.1 (Nat.le_of_ble_eq_true rfl) dX0_moleOf_11 ?_
  refine lv_if_ne (tgt := 19) hx hb dX0_moleOf_14 (by decide) (fun c1 => ?_) (fun c1 => ?_)
  · have hF := if_f hF c1
    refine lv_aload_n hx hb dX0_moleOf_19 rfl (lv_at hl 0 rfl) ?_
    refine ml_X0_g_ml_now hC h0 hZ hI dX0_moleOf_20 ?_
    refine st_X0_g_st_moles hC h0 hZ hI dX0_moleOf_23 ?_
    refine lv_iload_n hx hb dX0_moleOf_26 rfl (lv_at hl 1 rfl) ?_
    obtain ⟨hg2, hF⟩ := gd_some hF
    refine st_l_moles hC hI hg2 dX0_moleOf_27 ?_
    refine lv_astore_n (lv' := [(3, .ref (sa (14 + a1.toNatClampNeg))), (0, .ref (ma 0)), (1, .int a1), (2, .int a2)]) hx hb dX0_moleOf_28 rfl hl (by decide) rfl (fun ls hl => ?_)
    refine lv_iload_n hx hb dX0_moleOf_29 rfl (lv_at hl 3 rfl) ?_
    refine lv_if_ne (tgt := 40) hx hb dX0_moleOf_30 (by decide) (fun c3 => ?_) (fun c3 => ?_)
    · have hF := if_f hF c3
      refine lv_iload_n hx hb dX0_moleOf_40 rfl (lv_at hl 3 rfl) ?_
      refine lv_iconst (v := 1) hx hb dX0_moleOf_41 (by decide) ?_
      refine lv_icmp_ne (tgt := 60) hx hb dX0_moleOf_42 (by decide) (fun c4 => ?_) (fun c4 => ?_)
      · have hF := if_f hF c4
        refine lv_iload_n hx hb dX0_moleOf_60 rfl (lv_at hl 3 rfl) ?_
        refine lv_iconst (v := 2) hx hb dX0_moleOf_61 (by decide) ?_
        refine lv_icmp_ne (tgt := 72) hx hb dX0_moleOf_62 (by decide) (fun c5 => ?_) (fun c5 => ?_)
        · have hF := if_f hF c5
          refine lv_bipush (v := (-2)) hx hb dX0_moleOf_72 (by decide) ?_
          have hF := Option.some.inj hF
          subst hF
          exact rd_iret hC hr rfl dX0_moleOf_74
        · have hF := if_t hF c5
          refine lv_aload_n hx hb dX0_moleOf_65 rfl (lv_at hl 0 rfl) ?_
          refine st_X0_g_mole_took hC h0 hZ hI hg2 dX0_moleOf_66 ?_
          refine lv_goto (tgt := 74) hx hb dX0_moleOf_69 (by decide) ?_
          have hF := Option.some.inj hF
          subst hF
          exact rd_iret hC hr rfl dX0_moleOf_74
      · have hF := if_t hF c4
        refine lv_aload_n hx hb dX0_moleOf_45 rfl (lv_at hl 0 rfl) ?_
        refine st_X0_g_mole_isCaught hC h0 hZ hI hg2 dX0_moleOf_46 ?_
        refine lv_if_eq (tgt := 56) hx hb dX0_moleOf_49 (by decide) (fun c6 => ?_) (fun c6 => ?_)
        · have hF := if_t hF c6
          refine lv_iconst (v := 0) hx hb dX0_moleOf_56 (by decide) ?_
          refine lv_goto (tgt := 74) hx hb dX0_moleOf_57 (by decide) ?_
          have hF := Option.some.inj hF
          subst hF
          exact rd_iret hC hr rfl dX0_moleOf_74
        · have hF := if_f hF c6
          refine lv_iconst (v := 1) hx hb dX0_moleOf_52 (by decide) ?_
          refine lv_goto (tgt := 74) hx hb dX0_moleOf_53 (by decide) ?_
          have hF := Option.some.inj hF
          subst hF
          exact rd_iret hC hr rfl dX0_moleOf_74
    · have hF := if_t hF c3
      refine lv_aload_n hx hb dX0_moleOf_33 rfl (lv_at hl 0 rfl) ?_
      refine st_X0_g_mole_square hC h0 hZ hI hg2 dX0_moleOf_34 ?_
      refine lv_goto (tgt := 74) hx hb dX0_moleOf_37 (by decide) ?_
      have hF := Option.some.inj hF
      subst hF
      exact rd_iret hC hr rfl dX0_moleOf_74
  · have hF := if_t hF c1
    refine lv_iconst (v := (-1)) hx hb dX0_moleOf_17 (by decide) ?_
    have hF := Option.some.inj hF
    subst hF
    exact rd_iret hC hr rfl dX0_moleOf_18
theorem k_L_ml_moleOf {p : Program} {l : Launch} {e : Env} {R : Room} {s s0 : State} {b0 : Addr} {m : MethodId} {args : Array Value} {below : List Frame} {meth : Method} {c : Code} {H : Heap} {locs : List Loc} {cells slots : Nat} {Q : State → Prop} {pc : Nat} {ls : Array Slot} {rest : List Value} {G : va_G} {ai : Nat → ClassId} {A : Nat → Prop} {cc : ByteArray} {nL f L kc ks : Nat} {sa ma : Nat → Nat} {rf : Value} {tl : va_W} {v : MS} {ml : MS} {a1 : Int32} {a2 : Int32}  {r1 : Int32} (hC : mo_C p R s m args meth c G ai A RL cc nL f L kc ks) (h0 : mo_S0 s0 b0) (hZ : mo_Z s0 A s) (hI : mo_I G A s.heap (st_W ai sa v (ml_C ai s0 b0 sa ma rf ml ++ tl)) H locs) (hz : f_ml_moleOf v ml a1 a2 = some r1) (hf : 1 + 1 ≤ f) (hL : 8 + (4 + 11) + 22 ≤ L) (hsz : ls.size = nL) (hW : (rest.map fun v => v.category).sum ≤ 8) (hdg : decode cc pc = .ok (.invokevirtual 100, 3)) (kk : W p l e R s m args below meth c H locs cells slots Q (F0 m (pc + 3) ls (.int r1 :: rest))) (hc0 : cells ≤ kc := by first | exact Nat.zero_le _ | exact Nat.le_of_ble_eq_true rfl | assumption | omega) (hs0 : slots ≤ ks := by first | exact Nat.zero_le _ | exact Nat.le_of_ble_eq_true rfl | assumption | omega) : W p l e R s m args below meth c H locs cells slots Q (F0 m pc ls (.int a2 :: .int a1 :: .ref (ma 0) :: rest)) :=
  rd_use (va_runV (As := [.int a1, .int a2]) (rest := rest) ⟨hC.1, hC.2.1, hC.2.2.1, hC.2.2.2.1, hC.2.2.2.2.1⟩ (w_ml_moleOf l G ai h0 v ml a1 a2 r1 hz H.size) (cwV 2 hC.2.2.2.2.1 (lw_V q1842 q1843 q1844 q115 q1845) rfl rfl rfl (by decide +kernel) ⟨Nat.le_trans hf hC.2.2.2.2.2.2.2.2.1, Nat.le_trans hL hC.2.2.2.2.2.2.2.2.2.1⟩) ⟨gz_blind, (va_recv hC.2.2.2.2.2.2.1 hI.1 (ci := 1) (q0 := 18) rfl rfl), gz_pre0 hC hZ hI⟩ rfl rfl hsz rfl (lv_room hW) hdg ⟨Nat.le_trans hc0 hC.2.2.2.2.2.2.2.2.2.2.1, Nat.le_trans hs0 hC.2.2.2.2.2.2.2.2.2.2.2⟩) kk
def f_ml_pairs (v : MS) (ml : MS) (a1 : Int32) : Option Int32 := if (p_within a1 0 4) = 0 then (some (-1)) else (gd (gi a1 5) (some (v 13 a1.toNatClampNeg)))
set_option maxHeartbeats 4000000 in
theorem w_ml_pairs (l : Launch) (G : va_G) (ai : Nat → ClassId) {s0 : State} {b0 : Addr} (h0 : mo_S0 s0 b0) {sa ma : Nat → Nat} {rf : Value} {tl : va_W} (v : MS) (ml : MS) (a1 : Int32) (r0 : Int32) (hF : f_ml_pairs v ml a1 = some r0) : rd_Met l G ai s0 yX0_pairs cX0_pairs 2 (some .int) ({ frames := 1, cells := 0, slots := 0, locals := 22 } : Room) [.ref (ma 0), .int a1] (st_W ai sa v (ml_C ai s0 b0 sa ma rf ml ++ tl)) (.int r0) := by
  refine gz_body (Qc := fun _ => rd_Q (.int r0)) (fr := fun _ _ => False) (by decide) (Nat.le_of_ble_eq_true rfl) ?_
  intro p e s m args below meth c A ls hC hZ hr hI hl hnm
  have hx := hC.1
  have hb := hC.2.1
  have hl : lv_has ls 2 [(0, .ref (ma 0)), (1, .int a1)] := hl
  show W p l e _ s m args below meth c s.heap [] 0 0 (MQ below (rd_Q (.int r0)) args s 0 0 (fun _ => False)) (F0 m 0 ls [])
  rw [f_ml_pairs] at hF
  refine lv_iload_n hx hb dX0_pairs_0 rfl (lv_at hl 1 rfl) ?_
  refine lv_iconst (v := 0) hx hb dX0_pairs_1 (by decide) ?_
  refine lv_iconst (v := 4) hx hb dX0_pairs_2 (by decide) ?_
  refine k_X0_within (mo_CN hC) (Nat.le_of_ble_eq_true rfl) (Nat.le_of_ble_eq_true rfl) hl.1 (Nat.le_of_ble_eq_true rfl) dX0_pairs_3 ?_
  refine lv_if_eq (tgt := 21) hx hb dX0_pairs_6 (by decide) (fun c1 => ?_) (fun c1 => ?_)
  · have hF := if_t hF c1
    refine lv_iconst (v := (-1)) hx hb dX0_pairs_21 (by decide) ?_
    have hF := Option.some.inj hF
    subst hF
    exact rd_iret hC hr rfl dX0_pairs_22
  · have hF := if_f hF c1
    refine lv_aload_n hx hb dX0_pairs_9 rfl (lv_at hl 0 rfl) ?_
    refine ml_X0_g_ml_now hC h0 hZ hI dX0_pairs_10 ?_
    refine st_X0_g_st_pairs hC h0 hZ hI dX0_pairs_13 ?_
    refine lv_iload_n hx hb dX0_pairs_16 rfl (lv_at hl 1 rfl) ?_
    obtain ⟨hg2, hF⟩ := gd_some hF
    refine st_l_pairs hC hI hg2 dX0_pairs_17 ?_
    refine lv_goto (tgt := 22) hx hb dX0_pairs_18 (by decide) ?_
    have hF := Option.some.inj hF
    subst hF
    exact rd_iret hC hr rfl dX0_pairs_22
theorem k_L_ml_pairs {p : Program} {l : Launch} {e : Env} {R : Room} {s s0 : State} {b0 : Addr} {m : MethodId} {args : Array Value} {below : List Frame} {meth : Method} {c : Code} {H : Heap} {locs : List Loc} {cells slots : Nat} {Q : State → Prop} {pc : Nat} {ls : Array Slot} {rest : List Value} {G : va_G} {ai : Nat → ClassId} {A : Nat → Prop} {cc : ByteArray} {nL f L kc ks : Nat} {sa ma : Nat → Nat} {rf : Value} {tl : va_W} {v : MS} {ml : MS} {a1 : Int32}  {r1 : Int32} (hC : mo_C p R s m args meth c G ai A RL cc nL f L kc ks) (h0 : mo_S0 s0 b0) (hZ : mo_Z s0 A s) (hI : mo_I G A s.heap (st_W ai sa v (ml_C ai s0 b0 sa ma rf ml ++ tl)) H locs) (hz : f_ml_pairs v ml a1 = some r1) (hf : 1 + 1 ≤ f) (hL : 8 + (2 + 11) + 22 ≤ L) (hsz : ls.size = nL) (hW : (rest.map fun v => v.category).sum ≤ 8) (hdg : decode cc pc = .ok (.invokevirtual 104, 3)) (kk : W p l e R s m args below meth c H locs cells slots Q (F0 m (pc + 3) ls (.int r1 :: rest))) (hc0 : cells ≤ kc := by first | exact Nat.zero_le _ | exact Nat.le_of_ble_eq_true rfl | assumption | omega) (hs0 : slots ≤ ks := by first | exact Nat.zero_le _ | exact Nat.le_of_ble_eq_true rfl | assumption | omega) : W p l e R s m args below meth c H locs cells slots Q (F0 m pc ls (.int a1 :: .ref (ma 0) :: rest)) :=
  rd_use (va_runV (As := [.int a1]) (rest := rest) ⟨hC.1, hC.2.1, hC.2.2.1, hC.2.2.2.1, hC.2.2.2.2.1⟩ (w_ml_pairs l G ai h0 v ml a1 r1 hz H.size) (cwV 1 hC.2.2.2.2.1 (lw_V q1846 q1847 q1848 q115 q1849) rfl rfl rfl (by decide +kernel) ⟨Nat.le_trans hf hC.2.2.2.2.2.2.2.2.1, Nat.le_trans hL hC.2.2.2.2.2.2.2.2.2.1⟩) ⟨gz_blind, (va_recv hC.2.2.2.2.2.2.1 hI.1 (ci := 1) (q0 := 18) rfl rfl), gz_pre0 hC hZ hI⟩ rfl rfl hsz rfl (lv_room hW) hdg ⟨Nat.le_trans hc0 hC.2.2.2.2.2.2.2.2.2.2.1, Nat.le_trans hs0 hC.2.2.2.2.2.2.2.2.2.2.2⟩) kk
def f_ml_worst_L5 (x_v : MS) (x_ml : MS) (kont : Int32 → Option Int32) : Nat → Int32 → Int32 → Option Int32
  | 0, _, _ => none
  | n + 1, x2, x1 => if 30 ≤ x2 then (kont x1) else (gd (gi x2 30) (lj (fun (t4 : Int32) (t5 : Int32) => lj (fun (t7 : Int32) => lt (x2 + 1) (fun x2_9 => f_ml_worst_L5 x_v x_ml kont n x2_9 t7)) (fun j45_7 => if t4 ≤ t5 then (j45_7 x1) else (j45_7 x2))) (fun j37_5 => if 0 ≤ x1 then (gd (gi x1 30) (j37_5 (x_v 3 x2.toNatClampNeg) (x_v 3 x1.toNatClampNeg))) else (j37_5 (x_v 3 x2.toNatClampNeg) 0))))
def f_ml_worst (v : MS) (ml : MS) : Option Int32 := lt ((-4)) (fun x1_1 => f_ml_worst_L5 v ml (fun x1_13 => some x1_13) 2000 0 x1_1)
set_option maxHeartbeats 4000000 in
theorem w_ml_worst_L5 {p : Program} {l : Launch} {e : Env} {R : Room} {s s0 : State} {b0 : Addr} {m : MethodId} {args : Array Value} {below : List Frame} {meth : Method} {c : Code} {G : va_G} {ai : Nat → ClassId} {A : Nat → Prop} {sa ma : Nat → Nat} {rf : Value} {tl : va_W} {x_v : MS} {x_ml : MS} {r0 : Int32} (hC : mo_C p R s m args meth c G ai A RX0 cX0_worst 3 0 0 0 0) (h0 : mo_S0 s0 b0) (hZ : mo_Z s0 A s) (hr : meth.sig.returnType = (some .int)) (hI0 : mo_I G A s.heap (st_W ai sa x_v (ml_C ai s0 b0 sa ma rf x_ml ++ tl)) s.heap []) (kont : Int32 → Option Int32) (K : ∀ (x1 : Int32) (ls : Array Slot), kont x1 = some r0 → lv_has ls 3 [(1, .int x1)] → W p l e R s m args below meth c s.heap [] 0 0 (MQ below (rd_Q (.int r0)) args s 0 0 (fun _ => False)) (F0 m 52 ls [])) :
    ∀ (n : Nat) (x2 : Int32) (x1 : Int32) (ls : Array Slot), f_ml_worst_L5 x_v x_ml kont n x2 x1 = some r0 → lv_has ls 3 [(2, .int x2), (1, .int x1), (0, .ref (ma 0))] → W p l e R s m args below meth c s.heap [] 0 0 (MQ below (rd_Q (.int r0)) args s 0 0 (fun _ => False)) (F0 m 5 ls []) := by
  have hx := hC.1
  have hb := hC.2.1
  have hI := hI0
  intro n
  induction n with
  | zero =>
    intro x2 x1 ls hF
    have h0 : (none : Option Int32) = some r0 := hF
    cases h0
  | succ n ih =>
    intro x2 x1 ls hF hl
    rw [f_ml_worst_L5] at hF
    refine lv_iload_n hx hb dX0_worst_5 rfl (lv_at hl 0 rfl) ?_
    refine lv_bipush (v := 30) hx hb dX0_worst_6 (by decide) ?_
    refine lv_icmp_ge (tgt := 52) hx hb dX0_worst_8 (by decide) (fun c2 => ?_) (fun c2 => ?_)
    · have hF := if_t hF c2
      exact K _ _ hF (lv_sub hl [1] rfl)
    · have hF := if_f hF c2
      refine lv_aload_n hx hb dX0_worst_11 rfl (lv_at hl 2 rfl) ?_
      refine ml_X0_g_ml_now hC h0 hZ hI dX0_worst_12 ?_
      refine st_X0_g_st_leaves hC h0 hZ hI dX0_worst_15 ?_
      refine lv_iload_n hx hb dX0_worst_18 rfl (lv_at hl 0 rfl) ?_
      obtain ⟨hg3, hF⟩ := gd_some hF
      refine st_l_leaves hC hI hg3 dX0_worst_19 ?_
      refine lv_iload_n hx hb dX0_worst_20 rfl (lv_at hl 1 rfl) ?_
      obtain ⟨j37_5, hj37_5, hF⟩ := lj_some hF
      have J37 : ∀ (t4 : Int32) (t5 : Int32) (ls : Array Slot), j37_5 t4 t5 = some r0 → lv_has ls 3 [(2, .int x2), (1, .int x1), (0, .ref (ma 0))] → W p l e R s m args below meth c s.heap [] 0 0 (MQ below (rd_Q (.int r0)) args s 0 0 (fun _ => False)) (F0 m 37 ls [.int t5, .int t4]) := by
        intro t4 t5 ls hF hl
        rw [hj37_5] at hF
        obtain ⟨j45_7, hj45_7, hF⟩ := lj_some hF
        have J45 : ∀ (t7 : Int32) (ls : Array Slot), j45_7 t7 = some r0 → lv_has ls 3 [(2, .int x2), (0, .ref (ma 0))] → W p l e R s m args below meth c s.heap [] 0 0 (MQ below (rd_Q (.int r0)) args s 0 0 (fun _ => False)) (F0 m 45 ls [.int t7]) := by
          intro t7 ls hF hl
          rw [hj45_7] at hF
          refine mo_ist (lv' := [(1, .int t7), (2, .int x2), (0, .ref (ma 0))]) hx hb rfl dX0_worst_45 rfl hl (by decide) rfl (fun ls hl => ?_)
          obtain ⟨x2_9, hx2_9, hF⟩ := lt_some hF
          refine mo_inc (k := 1) (lv' := [(2, .int x2_9), (1, .int t7), (0, .ref (ma 0))]) hx hb hx2_9 (by decide) dX0_worst_46 hl rfl (by decide) rfl (fun ls hl => ?_)
          refine lv_goto (tgt := 5) hx hb dX0_worst_49 (by decide) ?_
          exact ih _ _ _ hF (lv_sub hl [0, 1, 2] rfl)
        refine lv_icmp_le (tgt := 44) hx hb dX0_worst_37 (by decide) (fun c10 => ?_) (fun c10 => ?_)
        · have hF := if_t hF c10
          refine lv_iload_n hx hb dX0_worst_44 rfl (lv_at hl 1 rfl) ?_
          exact J45 _ _ hF (lv_sub hl [0, 2] rfl)
        · have hF := if_f hF c10
          refine lv_iload_n hx hb dX0_worst_40 rfl (lv_at hl 0 rfl) ?_
          refine lv_goto (tgt := 45) hx hb dX0_worst_41 (by decide) ?_
          exact J45 _ _ hF (lv_sub hl [0, 2] rfl)
      refine lv_if_ge (tgt := 28) hx hb dX0_worst_21 (by decide) (fun c11 => ?_) (fun c11 => ?_)
      · have hF := if_t hF c11
        refine lv_aload_n hx hb dX0_worst_28 rfl (lv_at hl 2 rfl) ?_
        refine ml_X0_g_ml_now hC h0 hZ hI dX0_worst_29 ?_
        refine st_X0_g_st_leaves hC h0 hZ hI dX0_worst_32 ?_
        refine lv_iload_n hx hb dX0_worst_35 rfl (lv_at hl 1 rfl) ?_
        obtain ⟨hg12, hF⟩ := gd_some hF
        refine st_l_leaves hC hI hg12 dX0_worst_36 ?_
        exact J37 _ _ _ hF (lv_sub hl [0, 1, 2] rfl)
      · have hF := if_f hF c11
        refine lv_iconst (v := 0) hx hb dX0_worst_24 (by decide) ?_
        refine lv_goto (tgt := 37) hx hb dX0_worst_25 (by decide) ?_
        exact J37 _ _ _ hF (lv_sub hl [0, 1, 2] rfl)
set_option maxHeartbeats 4000000 in
theorem w_ml_worst (l : Launch) (G : va_G) (ai : Nat → ClassId) {s0 : State} {b0 : Addr} (h0 : mo_S0 s0 b0) {sa ma : Nat → Nat} {rf : Value} {tl : va_W} (v : MS) (ml : MS) (r0 : Int32) (hF : f_ml_worst v ml = some r0) : rd_Met l G ai s0 yX0_worst cX0_worst 3 (some .int) ({ frames := 0, cells := 0, slots := 0, locals := 0 } : Room) [.ref (ma 0)] (st_W ai sa v (ml_C ai s0 b0 sa ma rf ml ++ tl)) (.int r0) := by
  refine gz_body (Qc := fun _ => rd_Q (.int r0)) (fr := fun _ _ => False) (by decide) (Nat.le_of_ble_eq_true rfl) ?_
  intro p e s m args below meth c A ls hC hZ hr hI hl hnm
  have hx := hC.1
  have hb := hC.2.1
  have hl : lv_has ls 3 [(0, .ref (ma 0))] := hl
  show W p l e _ s m args below meth c s.heap [] 0 0 (MQ below (rd_Q (.int r0)) args s 0 0 (fun _ => False)) (F0 m 0 ls [])
  rw [f_ml_worst] at hF
  refine lv_bipush (v := (-4)) hx hb dX0_worst_0 (by decide) ?_
  obtain ⟨x1_1, hx1_1, hF⟩ := lt_some hF
  refine mo_ist (lv' := [(1, .int x1_1), (0, .ref (ma 0))]) hx hb hx1_1 dX0_worst_2 rfl hl (by decide) rfl (fun ls hl => ?_)
  refine lv_iconst (v := 0) hx hb dX0_worst_3 (by decide) ?_
  refine mo_ist (lv' := [(2, .int 0), (1, .int x1_1), (0, .ref (ma 0))]) hx hb rfl dX0_worst_4 rfl hl (by decide) rfl (fun ls hl => ?_)
  refine w_ml_worst_L5 hC h0 hZ hr hI _ (fun x1_13 ls hF hl => ?_) 2000 _ _ _ hF (lv_sub hl [0, 1, 2] rfl)
  refine lv_iload_n hx hb dX0_worst_52 rfl (lv_at hl 0 rfl) ?_
  have hF := Option.some.inj hF
  subst hF
  exact rd_iret hC hr rfl dX0_worst_53
theorem k_L_ml_worst {p : Program} {l : Launch} {e : Env} {R : Room} {s s0 : State} {b0 : Addr} {m : MethodId} {args : Array Value} {below : List Frame} {meth : Method} {c : Code} {H : Heap} {locs : List Loc} {cells slots : Nat} {Q : State → Prop} {pc : Nat} {ls : Array Slot} {rest : List Value} {G : va_G} {ai : Nat → ClassId} {A : Nat → Prop} {cc : ByteArray} {nL f L kc ks : Nat} {sa ma : Nat → Nat} {rf : Value} {tl : va_W} {v : MS} {ml : MS}  {r1 : Int32} (hC : mo_C p R s m args meth c G ai A RL cc nL f L kc ks) (h0 : mo_S0 s0 b0) (hZ : mo_Z s0 A s) (hI : mo_I G A s.heap (st_W ai sa v (ml_C ai s0 b0 sa ma rf ml ++ tl)) H locs) (hz : f_ml_worst v ml = some r1) (hf : 0 + 1 ≤ f) (hL : 8 + (3 + 11) + 0 ≤ L) (hsz : ls.size = nL) (hW : (rest.map fun v => v.category).sum ≤ 8) (hdg : decode cc pc = .ok (.invokevirtual 136, 3)) (kk : W p l e R s m args below meth c H locs cells slots Q (F0 m (pc + 3) ls (.int r1 :: rest))) (hc0 : cells ≤ kc := by first | exact Nat.zero_le _ | exact Nat.le_of_ble_eq_true rfl | assumption | omega) (hs0 : slots ≤ ks := by first | exact Nat.zero_le _ | exact Nat.le_of_ble_eq_true rfl | assumption | omega) : W p l e R s m args below meth c H locs cells slots Q (F0 m pc ls (.ref (ma 0) :: rest)) :=
  rd_use (va_runV (As := []) (rest := rest) ⟨hC.1, hC.2.1, hC.2.2.1, hC.2.2.2.1, hC.2.2.2.2.1⟩ (w_ml_worst l G ai h0 v ml r1 hz H.size) (cwV 0 hC.2.2.2.2.1 (lw_V q1887 q1888 q1889 q115 q1890) rfl rfl rfl (by decide +kernel) ⟨Nat.le_trans hf hC.2.2.2.2.2.2.2.2.1, Nat.le_trans hL hC.2.2.2.2.2.2.2.2.2.1⟩) ⟨gz_blind, (va_recv hC.2.2.2.2.2.2.1 hI.1 (ci := 1) (q0 := 18) rfl rfl), gz_pre0 hC hZ hI⟩ rfl rfl hsz rfl (lv_room hW) hdg ⟨Nat.le_trans hc0 hC.2.2.2.2.2.2.2.2.2.2.1, Nat.le_trans hs0 hC.2.2.2.2.2.2.2.2.2.2.2⟩) kk
def f_ml_moss_L28 (x_v : MS) (x_ml : MS) (kont : Int32 → Option Int32) : Nat → Int32 → Int32 → Option Int32
  | 0, _, _ => none
  | n + 1, x3, x2 => if 30 ≤ x3 then (kont x2) else (gd (gi x3 30) (lt ((x2 + (x_v 2 x3.toNatClampNeg))) (fun x2_4 => lt (x3 + 1) (fun x3_5 => f_ml_moss_L28 x_v x_ml kont n x3_5 x2_4))))
def f_ml_moss (v : MS) (ml : MS) (a1 : Int32) : Option Int32 := if a1 = 0 then (f_ml_moss_L28 v ml (fun x2_6 => some x2_6) 2000 0 0) else (some ((300 + (v 0 14)) - (v 0 15)))
set_option maxHeartbeats 4000000 in
theorem w_ml_moss_L28 {p : Program} {l : Launch} {e : Env} {R : Room} {s s0 : State} {b0 : Addr} {m : MethodId} {args : Array Value} {below : List Frame} {meth : Method} {c : Code} {G : va_G} {ai : Nat → ClassId} {A : Nat → Prop} {sa ma : Nat → Nat} {rf : Value} {tl : va_W} {x_v : MS} {x_ml : MS} {r0 : Int32} (hC : mo_C p R s m args meth c G ai A RX0 cX0_moss 4 0 0 0 0) (h0 : mo_S0 s0 b0) (hZ : mo_Z s0 A s) (hr : meth.sig.returnType = (some .int)) (hI0 : mo_I G A s.heap (st_W ai sa x_v (ml_C ai s0 b0 sa ma rf x_ml ++ tl)) s.heap []) (kont : Int32 → Option Int32) (K : ∀ (x2 : Int32) (ls : Array Slot), kont x2 = some r0 → lv_has ls 4 [(2, .int x2)] → W p l e R s m args below meth c s.heap [] 0 0 (MQ below (rd_Q (.int r0)) args s 0 0 (fun _ => False)) (F0 m 52 ls [])) :
    ∀ (n : Nat) (x3 : Int32) (x2 : Int32) (ls : Array Slot), f_ml_moss_L28 x_v x_ml kont n x3 x2 = some r0 → lv_has ls 4 [(3, .int x3), (2, .int x2), (0, .ref (ma 0))] → W p l e R s m args below meth c s.heap [] 0 0 (MQ below (rd_Q (.int r0)) args s 0 0 (fun _ => False)) (F0 m 28 ls []) := by
  have hx := hC.1
  have hb := hC.2.1
  have hI := hI0
  intro n
  induction n with
  | zero =>
    intro x3 x2 ls hF
    have h0 : (none : Option Int32) = some r0 := hF
    cases h0
  | succ n ih =>
    intro x3 x2 ls hF hl
    rw [f_ml_moss_L28] at hF
    refine lv_iload_n hx hb dX0_moss_28 rfl (lv_at hl 0 rfl) ?_
    refine lv_bipush (v := 30) hx hb dX0_moss_29 (by decide) ?_
    refine lv_icmp_ge (tgt := 52) hx hb dX0_moss_31 (by decide) (fun c2 => ?_) (fun c2 => ?_)
    · have hF := if_t hF c2
      exact K _ _ hF (lv_sub hl [1] rfl)
    · have hF := if_f hF c2
      refine lv_iload_n hx hb dX0_moss_34 rfl (lv_at hl 1 rfl) ?_
      refine lv_aload_n hx hb dX0_moss_35 rfl (lv_at hl 2 rfl) ?_
      refine ml_X0_g_ml_now hC h0 hZ hI dX0_moss_36 ?_
      refine st_X0_g_st_moss hC h0 hZ hI dX0_moss_39 ?_
      refine lv_iload_n hx hb dX0_moss_42 rfl (lv_at hl 0 rfl) ?_
      obtain ⟨hg3, hF⟩ := gd_some hF
      refine st_l_moss hC hI hg3 dX0_moss_43 ?_
      refine lv_iadd hx hb dX0_moss_44 ?_
      obtain ⟨x2_4, hx2_4, hF⟩ := lt_some hF
      refine mo_ist (lv' := [(2, .int x2_4), (3, .int x3), (0, .ref (ma 0))]) hx hb hx2_4 dX0_moss_45 rfl hl (by decide) rfl (fun ls hl => ?_)
      obtain ⟨x3_5, hx3_5, hF⟩ := lt_some hF
      refine mo_inc (k := 1) (lv' := [(3, .int x3_5), (2, .int x2_4), (0, .ref (ma 0))]) hx hb hx3_5 (by decide) dX0_moss_46 hl rfl (by decide) rfl (fun ls hl => ?_)
      refine lv_goto (tgt := 28) hx hb dX0_moss_49 (by decide) ?_
      exact ih _ _ _ hF (lv_sub hl [0, 1, 2] rfl)
set_option maxHeartbeats 4000000 in
theorem w_ml_moss (l : Launch) (G : va_G) (ai : Nat → ClassId) {s0 : State} {b0 : Addr} (h0 : mo_S0 s0 b0) {sa ma : Nat → Nat} {rf : Value} {tl : va_W} (v : MS) (ml : MS) (a1 : Int32) (r0 : Int32) (hF : f_ml_moss v ml a1 = some r0) : rd_Met l G ai s0 yX0_moss cX0_moss 4 (some .int) ({ frames := 0, cells := 0, slots := 0, locals := 0 } : Room) [.ref (ma 0), .int a1] (st_W ai sa v (ml_C ai s0 b0 sa ma rf ml ++ tl)) (.int r0) := by
  refine gz_body (Qc := fun _ => rd_Q (.int r0)) (fr := fun _ _ => False) (by decide) (Nat.le_of_ble_eq_true rfl) ?_
  intro p e s m args below meth c A ls hC hZ hr hI hl hnm
  have hx := hC.1
  have hb := hC.2.1
  have hl : lv_has ls 4 [(0, .ref (ma 0)), (1, .int a1)] := hl
  show W p l e _ s m args below meth c s.heap [] 0 0 (MQ below (rd_Q (.int r0)) args s 0 0 (fun _ => False)) (F0 m 0 ls [])
  rw [f_ml_moss] at hF
  refine lv_iload_n hx hb dX0_moss_0 rfl (lv_at hl 1 rfl) ?_
  refine lv_if_eq (tgt := 24) hx hb dX0_moss_1 (by decide) (fun c1 => ?_) (fun c1 => ?_)
  · have hF := if_t hF c1
    refine lv_iconst (v := 0) hx hb dX0_moss_24 (by decide) ?_
    refine mo_ist (lv' := [(2, .int 0), (0, .ref (ma 0)), (1, .int a1)]) hx hb rfl dX0_moss_25 rfl hl (by decide) rfl (fun ls hl => ?_)
    refine lv_iconst (v := 0) hx hb dX0_moss_26 (by decide) ?_
    refine mo_ist (lv' := [(3, .int 0), (2, .int 0), (0, .ref (ma 0)), (1, .int a1)]) hx hb rfl dX0_moss_27 rfl hl (by decide) rfl (fun ls hl => ?_)
    refine w_ml_moss_L28 hC h0 hZ hr hI _ (fun x2_6 ls hF hl => ?_) 2000 _ _ _ hF (lv_sub hl [0, 1, 2] rfl)
    refine lv_iload_n hx hb dX0_moss_52 rfl (lv_at hl 0 rfl) ?_
    have hF := Option.some.inj hF
    subst hF
    exact rd_iret hC hr rfl dX0_moss_53
  · have hF := if_f hF c1
    refine lv_sipush (v := 300) hx hb dX0_moss_4 (by decide) ?_
    refine lv_aload_n hx hb dX0_moss_7 rfl (lv_at hl 0 rfl) ?_
    refine ml_X0_g_ml_now hC h0 hZ hI dX0_moss_8 ?_
    refine st_X0_g_st_grown hC h0 hZ hI dX0_moss_11 ?_
    refine lv_iadd hx hb dX0_moss_14 ?_
    refine lv_aload_n hx hb dX0_moss_15 rfl (lv_at hl 0 rfl) ?_
    refine ml_X0_g_ml_now hC h0 hZ hI dX0_moss_16 ?_
    refine st_X0_g_st_lost hC h0 hZ hI dX0_moss_19 ?_
    refine lv_isub hx hb dX0_moss_22 ?_
    have hF := Option.some.inj hF
    subst hF
    exact rd_iret hC hr rfl dX0_moss_23
theorem k_X0_ml_moss {p : Program} {l : Launch} {e : Env} {R : Room} {s s0 : State} {b0 : Addr} {m : MethodId} {args : Array Value} {below : List Frame} {meth : Method} {c : Code} {H : Heap} {locs : List Loc} {cells slots : Nat} {Q : State → Prop} {pc : Nat} {ls : Array Slot} {rest : List Value} {G : va_G} {ai : Nat → ClassId} {A : Nat → Prop} {cc : ByteArray} {nL f L kc ks : Nat} {sa ma : Nat → Nat} {rf : Value} {tl : va_W} {v : MS} {ml : MS} {a1 : Int32}  {r1 : Int32} (hC : mo_C p R s m args meth c G ai A RX0 cc nL f L kc ks) (h0 : mo_S0 s0 b0) (hZ : mo_Z s0 A s) (hI : mo_I G A s.heap (st_W ai sa v (ml_C ai s0 b0 sa ma rf ml ++ tl)) H locs) (hz : f_ml_moss v ml a1 = some r1) (hf : 0 + 1 ≤ f) (hL : 8 + (4 + 11) + 0 ≤ L) (hsz : ls.size = nL) (hW : (rest.map fun v => v.category).sum ≤ 8) (hdg : decode cc pc = .ok (.invokevirtual 554, 3)) (kk : W p l e R s m args below meth c H locs cells slots Q (F0 m (pc + 3) ls (.int r1 :: rest))) (hc0 : cells ≤ kc := by first | exact Nat.zero_le _ | exact Nat.le_of_ble_eq_true rfl | assumption | omega) (hs0 : slots ≤ ks := by first | exact Nat.zero_le _ | exact Nat.le_of_ble_eq_true rfl | assumption | omega) : W p l e R s m args below meth c H locs cells slots Q (F0 m pc ls (.int a1 :: .ref (ma 0) :: rest)) :=
  rd_use (va_runV (As := [.int a1]) (rest := rest) ⟨hC.1, hC.2.1, hC.2.2.1, hC.2.2.2.1, hC.2.2.2.2.1⟩ (w_ml_moss l G ai h0 v ml a1 r1 hz H.size) (cwV 1 hC.2.2.2.2.1 (lw_V q1945 q1892 q1893 q115 q1894) rfl rfl rfl (by decide +kernel) ⟨Nat.le_trans hf hC.2.2.2.2.2.2.2.2.1, Nat.le_trans hL hC.2.2.2.2.2.2.2.2.2.1⟩) ⟨gz_blind, (va_recv hC.2.2.2.2.2.2.1 hI.1 (ci := 1) (q0 := 18) rfl rfl), gz_pre0 hC hZ hI⟩ rfl rfl hsz rfl (lv_room hW) hdg ⟨Nat.le_trans hc0 hC.2.2.2.2.2.2.2.2.2.2.1, Nat.le_trans hs0 hC.2.2.2.2.2.2.2.2.2.2.2⟩) kk
theorem k_L_ml_moss {p : Program} {l : Launch} {e : Env} {R : Room} {s s0 : State} {b0 : Addr} {m : MethodId} {args : Array Value} {below : List Frame} {meth : Method} {c : Code} {H : Heap} {locs : List Loc} {cells slots : Nat} {Q : State → Prop} {pc : Nat} {ls : Array Slot} {rest : List Value} {G : va_G} {ai : Nat → ClassId} {A : Nat → Prop} {cc : ByteArray} {nL f L kc ks : Nat} {sa ma : Nat → Nat} {rf : Value} {tl : va_W} {v : MS} {ml : MS} {a1 : Int32}  {r1 : Int32} (hC : mo_C p R s m args meth c G ai A RL cc nL f L kc ks) (h0 : mo_S0 s0 b0) (hZ : mo_Z s0 A s) (hI : mo_I G A s.heap (st_W ai sa v (ml_C ai s0 b0 sa ma rf ml ++ tl)) H locs) (hz : f_ml_moss v ml a1 = some r1) (hf : 0 + 1 ≤ f) (hL : 8 + (4 + 11) + 0 ≤ L) (hsz : ls.size = nL) (hW : (rest.map fun v => v.category).sum ≤ 8) (hdg : decode cc pc = .ok (.invokevirtual 140, 3)) (kk : W p l e R s m args below meth c H locs cells slots Q (F0 m (pc + 3) ls (.int r1 :: rest))) (hc0 : cells ≤ kc := by first | exact Nat.zero_le _ | exact Nat.le_of_ble_eq_true rfl | assumption | omega) (hs0 : slots ≤ ks := by first | exact Nat.zero_le _ | exact Nat.le_of_ble_eq_true rfl | assumption | omega) : W p l e R s m args below meth c H locs cells slots Q (F0 m pc ls (.int a1 :: .ref (ma 0) :: rest)) :=
  rd_use (va_runV (As := [.int a1]) (rest := rest) ⟨hC.1, hC.2.1, hC.2.2.1, hC.2.2.2.1, hC.2.2.2.2.1⟩ (w_ml_moss l G ai h0 v ml a1 r1 hz H.size) (cwV 1 hC.2.2.2.2.1 (lw_V q1891 q1892 q1893 q115 q1894) rfl rfl rfl (by decide +kernel) ⟨Nat.le_trans hf hC.2.2.2.2.2.2.2.2.1, Nat.le_trans hL hC.2.2.2.2.2.2.2.2.2.1⟩) ⟨gz_blind, (va_recv hC.2.2.2.2.2.2.1 hI.1 (ci := 1) (q0 := 18) rfl rfl), gz_pre0 hC hZ hI⟩ rfl rfl hsz rfl (lv_room hW) hdg ⟨Nat.le_trans hc0 hC.2.2.2.2.2.2.2.2.2.2.1, Nat.le_trans hs0 hC.2.2.2.2.2.2.2.2.2.2.2⟩) kk
def f_ml_fault (v : MS) (ml : MS) : Option Int32 := some (ml 0 13)
set_option maxHeartbeats 4000000 in
theorem w_ml_fault (l : Launch) (G : va_G) (ai : Nat → ClassId) {s0 : State} {b0 : Addr} (h0 : mo_S0 s0 b0) {sa ma : Nat → Nat} {rf : Value} {tl : va_W} (v : MS) (ml : MS) (r0 : Int32) (hF : f_ml_fault v ml = some r0) : rd_Met l G ai s0 yX0_fault cX0_fault 1 (some .int) ({ frames := 0, cells := 0, slots := 0, locals := 0 } : Room) [.ref (ma 0)] (st_W ai sa v (ml_C ai s0 b0 sa ma rf ml ++ tl)) (.int r0) := by
  refine gz_body (Qc := fun _ => rd_Q (.int r0)) (fr := fun _ _ => False) (by decide) (Nat.le_of_ble_eq_true rfl) ?_
  intro p e s m args below meth c A ls hC hZ hr hI hl hnm
  have hx := hC.1
  have hb := hC.2.1
  have hl : lv_has ls 1 [(0, .ref (ma 0))] := hl
  show W p l e _ s m args below meth c s.heap [] 0 0 (MQ below (rd_Q (.int r0)) args s 0 0 (fun _ => False)) (F0 m 0 ls [])
  rw [f_ml_fault] at hF
  refine lv_aload_n hx hb dX0_fault_0 rfl (lv_at hl 0 rfl) ?_
  refine ml_X0_g_ml_faultAt hC h0 hZ hI dX0_fault_1 ?_
  have hF := Option.some.inj hF
  subst hF
  exact rd_iret hC hr rfl dX0_fault_4
theorem k_L_ml_fault {p : Program} {l : Launch} {e : Env} {R : Room} {s s0 : State} {b0 : Addr} {m : MethodId} {args : Array Value} {below : List Frame} {meth : Method} {c : Code} {H : Heap} {locs : List Loc} {cells slots : Nat} {Q : State → Prop} {pc : Nat} {ls : Array Slot} {rest : List Value} {G : va_G} {ai : Nat → ClassId} {A : Nat → Prop} {cc : ByteArray} {nL f L kc ks : Nat} {sa ma : Nat → Nat} {rf : Value} {tl : va_W} {v : MS} {ml : MS}  {r1 : Int32} (hC : mo_C p R s m args meth c G ai A RL cc nL f L kc ks) (h0 : mo_S0 s0 b0) (hZ : mo_Z s0 A s) (hI : mo_I G A s.heap (st_W ai sa v (ml_C ai s0 b0 sa ma rf ml ++ tl)) H locs) (hz : f_ml_fault v ml = some r1) (hf : 0 + 1 ≤ f) (hL : 8 + (1 + 11) + 0 ≤ L) (hsz : ls.size = nL) (hW : (rest.map fun v => v.category).sum ≤ 8) (hdg : decode cc pc = .ok (.invokevirtual 83, 3)) (kk : W p l e R s m args below meth c H locs cells slots Q (F0 m (pc + 3) ls (.int r1 :: rest))) (hc0 : cells ≤ kc := by first | exact Nat.zero_le _ | exact Nat.le_of_ble_eq_true rfl | assumption | omega) (hs0 : slots ≤ ks := by first | exact Nat.zero_le _ | exact Nat.le_of_ble_eq_true rfl | assumption | omega) : W p l e R s m args below meth c H locs cells slots Q (F0 m pc ls (.ref (ma 0) :: rest)) :=
  rd_use (va_runV (As := []) (rest := rest) ⟨hC.1, hC.2.1, hC.2.2.1, hC.2.2.2.1, hC.2.2.2.2.1⟩ (w_ml_fault l G ai h0 v ml r1 hz H.size) (cwV 0 hC.2.2.2.2.1 (lw_V q1684 q1685 q1686 q115 q1687) rfl rfl rfl (by decide +kernel) ⟨Nat.le_trans hf hC.2.2.2.2.2.2.2.2.1, Nat.le_trans hL hC.2.2.2.2.2.2.2.2.2.1⟩) ⟨gz_blind, (va_recv hC.2.2.2.2.2.2.1 hI.1 (ci := 1) (q0 := 18) rfl rfl), gz_pre0 hC hZ hI⟩ rfl rfl hsz rfl (lv_room hW) hdg ⟨Nat.le_trans hc0 hC.2.2.2.2.2.2.2.2.2.2.1, Nat.le_trans hs0 hC.2.2.2.2.2.2.2.2.2.2.2⟩) kk

set_option maxRecDepth 100000
theorem st_X1_g_st_moss {p : Program} {l : Launch} {e : Env} {R : Room} {s s0 : State} {b0 : Addr} {m : MethodId} {args : Array Value} {below : List Frame} {meth : Method} {c : Code} {H : Heap} {locs : List Loc} {cells slots : Nat} {Q : State → Prop} {pc : Nat} {ls : Array Slot} {rest : List Value} {G : va_G} {ai : Nat → ClassId} {A : Nat → Prop} {cc : ByteArray} {nL f L kc ks : Nat} {sa : Nat → Nat} {tl : va_W} {v : MS} (hC : mo_C p R s m args meth c G ai A RX1 cc nL f L kc ks) (h0 : mo_S0 s0 b0) (hZ : mo_Z s0 A s) (hI : mo_I G A s.heap (st_W ai sa v tl) H locs) (hdg : decode cc pc = .ok (.getfield 15, 3)) (kk : W p l e R s m args below meth c H locs cells slots Q (F0 m (pc + 3) ls (.ref (sa 2) :: rest))) : W p l e R s m args below meth c H locs cells slots Q (F0 m pc ls (.ref (sa 0) :: rest)) :=
  va_get (D := G) (ci := 2) (C := RX1) (T := TX1) (N := 19) hC.1 hC.2.1 hC.2.2.2.2.1 in_X1 hC.2.2.2.1 hC.2.2.2.2.2.2.1 hI.1 0 rfl rfl 1 (by decide) (hC.2.2.2.2.1 _ q304) (fun _ h9 => h9) rfl hdg kk
theorem st_l_moss {own : String} {p : Program} {l : Launch} {e : Env} {R : Room} {s : State} {m : MethodId} {args : Array Value} {below : List Frame} {meth : Method} {c : Code} {H : Heap} {locs : List Loc} {cells slots : Nat} {Q : State → Prop} {pc : Nat} {ls : Array Slot} {rest : List Value} {G : va_G} {ai : Nat → ClassId} {A : Nat → Prop} {cc : ByteArray} {nL f L kc ks : Nat} {sa : Nat → Nat} {tl : va_W} {v : MS} {j : Int32} (hC : mo_C p R s m args meth c G ai A own cc nL f L kc ks) (hI : mo_I G A s.heap (st_W ai sa v tl) H locs) (hg : gi j 30 = true) (hdg : decode cc pc = .ok (.iaload, 1)) (kk : W p l e R s m args below meth c H locs cells slots Q (F0 m (pc + 1) ls (.int (v 2 j.toNatClampNeg) :: rest))) : W p l e R s m args below meth c H locs cells slots Q (F0 m pc ls (.int j :: .ref (sa 2) :: rest)) :=
  va_iald hC.1 hC.2.1 hC.2.2.2.2.2.2.1 hI.1 2 0 rfl rfl (gi_in hg) hdg kk
theorem st_s_moss {own : String} {p : Program} {l : Launch} {e : Env} {R : Room} {s : State} {m : MethodId} {args : Array Value} {below : List Frame} {meth : Method} {c : Code} {H : Heap} {locs : List Loc} {cells slots : Nat} {Q : State → Prop} {pc : Nat} {ls : Array Slot} {rest : List Value} {G : va_G} {ai : Nat → ClassId} {A : Nat → Prop} {cc : ByteArray} {nL f L kc ks : Nat} {sa : Nat → Nat} {tl : va_W} {v : MS} {j : Int32} {x : Int32} {z1 : MS} (hC : mo_C p R s m args meth c G ai A own cc nL f L kc ks) (hI : mo_I G A s.heap (st_W ai sa v tl) H locs) (hg : gi j 30 = true) (hM : z1 = rup v 2 (upd (v 2) j.toNatClampNeg x)) (hdg : decode cc pc = .ok (.iastore, 1)) (kk : ∀ (H1 : Heap) (locs1 : List Loc), mo_I G A s.heap (st_W ai sa z1 tl) H1 locs1 → W p l e R s m args below meth c H1 locs1 cells slots Q (F0 m (pc + 1) ls (rest))) : W p l e R s m args below meth c H locs cells slots Q (F0 m pc ls (.int x :: .int j :: .ref (sa 2) :: rest)) := by
  subst z1
  exact va_iast hC.1 hC.2.1 hC.2.2.2.2.2.2.1 hI.1 hI.2.1 hI.2.2 2 0 rfl rfl (gi_in hg) hdg (fun H locs hP hD hS => kk H locs ⟨hP, hD, hS⟩)
theorem st_X1_g_st_lost {p : Program} {l : Launch} {e : Env} {R : Room} {s s0 : State} {b0 : Addr} {m : MethodId} {args : Array Value} {below : List Frame} {meth : Method} {c : Code} {H : Heap} {locs : List Loc} {cells slots : Nat} {Q : State → Prop} {pc : Nat} {ls : Array Slot} {rest : List Value} {G : va_G} {ai : Nat → ClassId} {A : Nat → Prop} {cc : ByteArray} {nL f L kc ks : Nat} {sa : Nat → Nat} {tl : va_W} {v : MS} (hC : mo_C p R s m args meth c G ai A RX1 cc nL f L kc ks) (h0 : mo_S0 s0 b0) (hZ : mo_Z s0 A s) (hI : mo_I G A s.heap (st_W ai sa v tl) H locs) (hdg : decode cc pc = .ok (.getfield 83, 3)) (kk : W p l e R s m args below meth c H locs cells slots Q (F0 m (pc + 3) ls (.int (v 0 15) :: rest))) : W p l e R s m args below meth c H locs cells slots Q (F0 m pc ls (.ref (sa 0) :: rest)) :=
  va_get (D := G) (ci := 2) (C := RX1) (T := TX1) (N := 19) hC.1 hC.2.1 hC.2.2.2.2.1 in_X1 hC.2.2.2.1 hC.2.2.2.2.2.2.1 hI.1 0 rfl rfl 15 (by decide) (hC.2.2.2.2.1 _ q332) (fun _ h9 => h9) rfl hdg kk
theorem st_X1_p_st_lost {p : Program} {l : Launch} {e : Env} {R : Room} {s s0 : State} {b0 : Addr} {m : MethodId} {args : Array Value} {below : List Frame} {meth : Method} {c : Code} {H : Heap} {locs : List Loc} {cells slots : Nat} {Q : State → Prop} {pc : Nat} {ls : Array Slot} {rest : List Value} {G : va_G} {ai : Nat → ClassId} {A : Nat → Prop} {cc : ByteArray} {nL f L kc ks : Nat} {sa : Nat → Nat} {tl : va_W} {v : MS} {x : Int32} {z1 : MS} (hC : mo_C p R s m args meth c G ai A RX1 cc nL f L kc ks) (h0 : mo_S0 s0 b0) (hZ : mo_Z s0 A s) (hI : mo_I G A s.heap (st_W ai sa v tl) H locs) (hM : z1 = rup v 0 (upd (v 0) 15 x)) (hdg : decode cc pc = .ok (.putfield 83, 3)) (kk : ∀ (H1 : Heap) (locs1 : List Loc), mo_I G A s.heap (st_W ai sa z1 tl) H1 locs1 → W p l e R s m args below meth c H1 locs1 cells slots Q (F0 m (pc + 3) ls (rest))) : W p l e R s m args below meth c H locs cells slots Q (F0 m pc ls (.int x :: .ref (sa 0) :: rest)) := by
  subst z1
  exact va_put (D := G) (ci := 2) (v := .int x) (ty := .int) (C := RX1) (T := TX1) (N := 19) hC.1 hC.2.1 hC.2.2.2.2.1 in_X1 tyX1 tyX1_ok nmX1 hC.2.2.2.1 hC.2.2.2.2.2.2.1 hI.1 hI.2.1 hI.2.2 0 rfl rfl 15 (by decide) (hC.2.2.2.2.1 _ q332) (fun _ h9 => h9) rfl (by decide +kernel) rfl rfl (Nat.le_of_ble_eq_true rfl) hdg (fun H locs hP hD hS => kk H locs ⟨hP, hD, hS⟩)
theorem st_X1_g_st_grown {p : Program} {l : Launch} {e : Env} {R : Room} {s s0 : State} {b0 : Addr} {m : MethodId} {args : Array Value} {below : List Frame} {meth : Method} {c : Code} {H : Heap} {locs : List Loc} {cells slots : Nat} {Q : State → Prop} {pc : Nat} {ls : Array Slot} {rest : List Value} {G : va_G} {ai : Nat → ClassId} {A : Nat → Prop} {cc : ByteArray} {nL f L kc ks : Nat} {sa : Nat → Nat} {tl : va_W} {v : MS} (hC : mo_C p R s m args meth c G ai A RX1 cc nL f L kc ks) (h0 : mo_S0 s0 b0) (hZ : mo_Z s0 A s) (hI : mo_I G A s.heap (st_W ai sa v tl) H locs) (hdg : decode cc pc = .ok (.getfield 80, 3)) (kk : W p l e R s m args below meth c H locs cells slots Q (F0 m (pc + 3) ls (.int (v 0 14) :: rest))) : W p l e R s m args below meth c H locs cells slots Q (F0 m pc ls (.ref (sa 0) :: rest)) :=
  va_get (D := G) (ci := 2) (C := RX1) (T := TX1) (N := 19) hC.1 hC.2.1 hC.2.2.2.2.1 in_X1 hC.2.2.2.1 hC.2.2.2.2.2.2.1 hI.1 0 rfl rfl 14 (by decide) (hC.2.2.2.2.1 _ q330) (fun _ h9 => h9) rfl hdg kk
theorem st_X1_p_st_grown {p : Program} {l : Launch} {e : Env} {R : Room} {s s0 : State} {b0 : Addr} {m : MethodId} {args : Array Value} {below : List Frame} {meth : Method} {c : Code} {H : Heap} {locs : List Loc} {cells slots : Nat} {Q : State → Prop} {pc : Nat} {ls : Array Slot} {rest : List Value} {G : va_G} {ai : Nat → ClassId} {A : Nat → Prop} {cc : ByteArray} {nL f L kc ks : Nat} {sa : Nat → Nat} {tl : va_W} {v : MS} {x : Int32} {z1 : MS} (hC : mo_C p R s m args meth c G ai A RX1 cc nL f L kc ks) (h0 : mo_S0 s0 b0) (hZ : mo_Z s0 A s) (hI : mo_I G A s.heap (st_W ai sa v tl) H locs) (hM : z1 = rup v 0 (upd (v 0) 14 x)) (hdg : decode cc pc = .ok (.putfield 80, 3)) (kk : ∀ (H1 : Heap) (locs1 : List Loc), mo_I G A s.heap (st_W ai sa z1 tl) H1 locs1 → W p l e R s m args below meth c H1 locs1 cells slots Q (F0 m (pc + 3) ls (rest))) : W p l e R s m args below meth c H locs cells slots Q (F0 m pc ls (.int x :: .ref (sa 0) :: rest)) := by
  subst z1
  exact va_put (D := G) (ci := 2) (v := .int x) (ty := .int) (C := RX1) (T := TX1) (N := 19) hC.1 hC.2.1 hC.2.2.2.2.1 in_X1 tyX1 tyX1_ok nmX1 hC.2.2.2.1 hC.2.2.2.2.2.2.1 hI.1 hI.2.1 hI.2.2 0 rfl rfl 14 (by decide) (hC.2.2.2.2.1 _ q330) (fun _ h9 => h9) rfl (by decide +kernel) rfl rfl (Nat.le_of_ble_eq_true rfl) hdg (fun H locs hP hD hS => kk H locs ⟨hP, hD, hS⟩)
theorem st_X1_g_st_leaves {p : Program} {l : Launch} {e : Env} {R : Room} {s s0 : State} {b0 : Addr} {m : MethodId} {args : Array Value} {below : List Frame} {meth : Method} {c : Code} {H : Heap} {locs : List Loc} {cells slots : Nat} {Q : State → Prop} {pc : Nat} {ls : Array Slot} {rest : List Value} {G : va_G} {ai : Nat → ClassId} {A : Nat → Prop} {cc : ByteArray} {nL f L kc ks : Nat} {sa : Nat → Nat} {tl : va_W} {v : MS} (hC : mo_C p R s m args meth c G ai A RX1 cc nL f L kc ks) (h0 : mo_S0 s0 b0) (hZ : mo_Z s0 A s) (hI : mo_I G A s.heap (st_W ai sa v tl) H locs) (hdg : decode cc pc = .ok (.getfield 18, 3)) (kk : W p l e R s m args below meth c H locs cells slots Q (F0 m (pc + 3) ls (.ref (sa 3) :: rest))) : W p l e R s m args below meth c H locs cells slots Q (F0 m pc ls (.ref (sa 0) :: rest)) :=
  va_get (D := G) (ci := 2) (C := RX1) (T := TX1) (N := 19) hC.1 hC.2.1 hC.2.2.2.2.1 in_X1 hC.2.2.2.1 hC.2.2.2.2.2.2.1 hI.1 0 rfl rfl 2 (by decide) (hC.2.2.2.2.1 _ q306) (fun _ h9 => h9) rfl hdg kk
theorem st_l_leaves {own : String} {p : Program} {l : Launch} {e : Env} {R : Room} {s : State} {m : MethodId} {args : Array Value} {below : List Frame} {meth : Method} {c : Code} {H : Heap} {locs : List Loc} {cells slots : Nat} {Q : State → Prop} {pc : Nat} {ls : Array Slot} {rest : List Value} {G : va_G} {ai : Nat → ClassId} {A : Nat → Prop} {cc : ByteArray} {nL f L kc ks : Nat} {sa : Nat → Nat} {tl : va_W} {v : MS} {j : Int32} (hC : mo_C p R s m args meth c G ai A own cc nL f L kc ks) (hI : mo_I G A s.heap (st_W ai sa v tl) H locs) (hg : gi j 30 = true) (hdg : decode cc pc = .ok (.iaload, 1)) (kk : W p l e R s m args below meth c H locs cells slots Q (F0 m (pc + 1) ls (.int (v 3 j.toNatClampNeg) :: rest))) : W p l e R s m args below meth c H locs cells slots Q (F0 m pc ls (.int j :: .ref (sa 3) :: rest)) :=
  va_iald hC.1 hC.2.1 hC.2.2.2.2.2.2.1 hI.1 3 0 rfl rfl (gi_in hg) hdg kk
theorem st_X1_g_st_rain {p : Program} {l : Launch} {e : Env} {R : Room} {s s0 : State} {b0 : Addr} {m : MethodId} {args : Array Value} {below : List Frame} {meth : Method} {c : Code} {H : Heap} {locs : List Loc} {cells slots : Nat} {Q : State → Prop} {pc : Nat} {ls : Array Slot} {rest : List Value} {G : va_G} {ai : Nat → ClassId} {A : Nat → Prop} {cc : ByteArray} {nL f L kc ks : Nat} {sa : Nat → Nat} {tl : va_W} {v : MS} (hC : mo_C p R s m args meth c G ai A RX1 cc nL f L kc ks) (h0 : mo_S0 s0 b0) (hZ : mo_Z s0 A s) (hI : mo_I G A s.heap (st_W ai sa v tl) H locs) (hdg : decode cc pc = .ok (.getfield 74, 3)) (kk : W p l e R s m args below meth c H locs cells slots Q (F0 m (pc + 3) ls (.int (v 0 12) :: rest))) : W p l e R s m args below meth c H locs cells slots Q (F0 m pc ls (.ref (sa 0) :: rest)) :=
  va_get (D := G) (ci := 2) (C := RX1) (T := TX1) (N := 19) hC.1 hC.2.1 hC.2.2.2.2.1 in_X1 hC.2.2.2.1 hC.2.2.2.2.2.2.1 hI.1 0 rfl rfl 12 (by decide) (hC.2.2.2.2.1 _ q326) (fun _ h9 => h9) rfl hdg kk
theorem st_X1_g_st_shade {p : Program} {l : Launch} {e : Env} {R : Room} {s s0 : State} {b0 : Addr} {m : MethodId} {args : Array Value} {below : List Frame} {meth : Method} {c : Code} {H : Heap} {locs : List Loc} {cells slots : Nat} {Q : State → Prop} {pc : Nat} {ls : Array Slot} {rest : List Value} {G : va_G} {ai : Nat → ClassId} {A : Nat → Prop} {cc : ByteArray} {nL f L kc ks : Nat} {sa : Nat → Nat} {tl : va_W} {v : MS} (hC : mo_C p R s m args meth c G ai A RX1 cc nL f L kc ks) (h0 : mo_S0 s0 b0) (hZ : mo_Z s0 A s) (hI : mo_I G A s.heap (st_W ai sa v tl) H locs) (hdg : decode cc pc = .ok (.getfield 9, 3)) (kk : W p l e R s m args below meth c H locs cells slots Q (F0 m (pc + 3) ls (.ref (sa 1) :: rest))) : W p l e R s m args below meth c H locs cells slots Q (F0 m pc ls (.ref (sa 0) :: rest)) :=
  va_get (D := G) (ci := 2) (C := RX1) (T := TX1) (N := 19) hC.1 hC.2.1 hC.2.2.2.2.1 in_X1 hC.2.2.2.1 hC.2.2.2.2.2.2.1 hI.1 0 rfl rfl 0 (by decide) (hC.2.2.2.2.1 _ q302) (fun _ h9 => h9) rfl hdg kk
theorem st_l_shade {own : String} {p : Program} {l : Launch} {e : Env} {R : Room} {s : State} {m : MethodId} {args : Array Value} {below : List Frame} {meth : Method} {c : Code} {H : Heap} {locs : List Loc} {cells slots : Nat} {Q : State → Prop} {pc : Nat} {ls : Array Slot} {rest : List Value} {G : va_G} {ai : Nat → ClassId} {A : Nat → Prop} {cc : ByteArray} {nL f L kc ks : Nat} {sa : Nat → Nat} {tl : va_W} {v : MS} {j : Int32} (hC : mo_C p R s m args meth c G ai A own cc nL f L kc ks) (hI : mo_I G A s.heap (st_W ai sa v tl) H locs) (hg : gi j 30 = true) (hdg : decode cc pc = .ok (.iaload, 1)) (kk : W p l e R s m args below meth c H locs cells slots Q (F0 m (pc + 1) ls (.int (v 1 j.toNatClampNeg) :: rest))) : W p l e R s m args below meth c H locs cells slots Q (F0 m pc ls (.int j :: .ref (sa 1) :: rest)) :=
  va_iald hC.1 hC.2.1 hC.2.2.2.2.2.2.1 hI.1 1 0 rfl rfl (gi_in hg) hdg kk
theorem st_X2_p_gard_square {p : Program} {l : Launch} {e : Env} {R : Room} {s s0 : State} {b0 : Addr} {m : MethodId} {args : Array Value} {below : List Frame} {meth : Method} {c : Code} {H : Heap} {locs : List Loc} {cells slots : Nat} {Q : State → Prop} {pc : Nat} {ls : Array Slot} {rest : List Value} {G : va_G} {ai : Nat → ClassId} {A : Nat → Prop} {cc : ByteArray} {nL f L kc ks : Nat} {sa : Nat → Nat} {tl : va_W} {v : MS} {k x : Int32} {z1 : MS} (hC : mo_C p R s m args meth c G ai A RX2 cc nL f L kc ks) (h0 : mo_S0 s0 b0) (hZ : mo_Z s0 A s) (hI : mo_I G A s.heap (st_W ai sa v tl) H locs) (hj : gi k 4 = true) (hM : z1 = rup v (6 + k.toNatClampNeg) (upd (v (6 + k.toNatClampNeg)) 0 x)) (hdg : decode cc pc = .ok (.putfield 9, 3)) (kk : ∀ (H1 : Heap) (locs1 : List Loc), mo_I G A s.heap (st_W ai sa z1 tl) H1 locs1 → W p l e R s m args below meth c H1 locs1 cells slots Q (F0 m (pc + 3) ls (rest))) : W p l e R s m args below meth c H locs cells slots Q (F0 m pc ls (.int x :: .ref (sa (10 + k.toNatClampNeg)) :: rest)) := by
  subst z1
  obtain ⟨j, hj1, -, hc⟩ := gi_nI (by decide) hj
  rw [hc] at kk ⊢
  refine va_put (D := G) (ci := 3) (v := .int x) (ty := .int) (C := RX2) (T := TX2) (N := 5) hC.1 hC.2.1 hC.2.2.2.2.1 in_X2 tyX2 tyX2_ok nmX2 hC.2.2.2.1 hC.2.2.2.2.2.2.1 hI.1 hI.2.1 hI.2.2 (7 + j) (st_hg j hj1) rfl 0 (by decide) (hC.2.2.2.2.1 _ q247) (fun _ h9 => h9) rfl (by decide +kernel) rfl rfl (Nat.le_of_ble_eq_true rfl) hdg (fun H locs hP hD hS => ?_)
  rw [st_sg (by decide) j hj1] at hP hD
  exact kk H locs ⟨hP, hD, hS⟩
theorem st_X2_p_gard_hours {p : Program} {l : Launch} {e : Env} {R : Room} {s s0 : State} {b0 : Addr} {m : MethodId} {args : Array Value} {below : List Frame} {meth : Method} {c : Code} {H : Heap} {locs : List Loc} {cells slots : Nat} {Q : State → Prop} {pc : Nat} {ls : Array Slot} {rest : List Value} {G : va_G} {ai : Nat → ClassId} {A : Nat → Prop} {cc : ByteArray} {nL f L kc ks : Nat} {sa : Nat → Nat} {tl : va_W} {v : MS} {k x : Int32} {z1 : MS} (hC : mo_C p R s m args meth c G ai A RX2 cc nL f L kc ks) (h0 : mo_S0 s0 b0) (hZ : mo_Z s0 A s) (hI : mo_I G A s.heap (st_W ai sa v tl) H locs) (hj : gi k 4 = true) (hM : z1 = rup v (6 + k.toNatClampNeg) (upd (v (6 + k.toNatClampNeg)) 1 x)) (hdg : decode cc pc = .ok (.putfield 15, 3)) (kk : ∀ (H1 : Heap) (locs1 : List Loc), mo_I G A s.heap (st_W ai sa z1 tl) H1 locs1 → W p l e R s m args below meth c H1 locs1 cells slots Q (F0 m (pc + 3) ls (rest))) : W p l e R s m args below meth c H locs cells slots Q (F0 m pc ls (.int x :: .ref (sa (10 + k.toNatClampNeg)) :: rest)) := by
  subst z1
  obtain ⟨j, hj1, -, hc⟩ := gi_nI (by decide) hj
  rw [hc] at kk ⊢
  refine va_put (D := G) (ci := 3) (v := .int x) (ty := .int) (C := RX2) (T := TX2) (N := 5) hC.1 hC.2.1 hC.2.2.2.2.1 in_X2 tyX2 tyX2_ok nmX2 hC.2.2.2.1 hC.2.2.2.2.2.2.1 hI.1 hI.2.1 hI.2.2 (7 + j) (st_hg j hj1) rfl 1 (by decide) (hC.2.2.2.2.1 _ q249) (fun _ h9 => h9) rfl (by decide +kernel) rfl rfl (Nat.le_of_ble_eq_true rfl) hdg (fun H locs hP hD hS => ?_)
  rw [st_sg (by decide) j hj1] at hP hD
  exact kk H locs ⟨hP, hD, hS⟩
theorem st_X2_p_gard_bamboo {p : Program} {l : Launch} {e : Env} {R : Room} {s s0 : State} {b0 : Addr} {m : MethodId} {args : Array Value} {below : List Frame} {meth : Method} {c : Code} {H : Heap} {locs : List Loc} {cells slots : Nat} {Q : State → Prop} {pc : Nat} {ls : Array Slot} {rest : List Value} {G : va_G} {ai : Nat → ClassId} {A : Nat → Prop} {cc : ByteArray} {nL f L kc ks : Nat} {sa : Nat → Nat} {tl : va_W} {v : MS} {k x : Int32} {z1 : MS} (hC : mo_C p R s m args meth c G ai A RX2 cc nL f L kc ks) (h0 : mo_S0 s0 b0) (hZ : mo_Z s0 A s) (hI : mo_I G A s.heap (st_W ai sa v tl) H locs) (hj : gi k 4 = true) (hM : z1 = rup v (6 + k.toNatClampNeg) (upd (v (6 + k.toNatClampNeg)) 2 x)) (hdg : decode cc pc = .ok (.putfield 18, 3)) (kk : ∀ (H1 : Heap) (locs1 : List Loc), mo_I G A s.heap (st_W ai sa z1 tl) H1 locs1 → W p l e R s m args below meth c H1 locs1 cells slots Q (F0 m (pc + 3) ls (rest))) : W p l e R s m args below meth c H locs cells slots Q (F0 m pc ls (.int x :: .ref (sa (10 + k.toNatClampNeg)) :: rest)) := by
  subst z1
  obtain ⟨j, hj1, -, hc⟩ := gi_nI (by decide) hj
  rw [hc] at kk ⊢
  refine va_put (D := G) (ci := 3) (v := .int x) (ty := .int) (C := RX2) (T := TX2) (N := 5) hC.1 hC.2.1 hC.2.2.2.2.1 in_X2 tyX2 tyX2_ok nmX2 hC.2.2.2.1 hC.2.2.2.2.2.2.1 hI.1 hI.2.1 hI.2.2 (7 + j) (st_hg j hj1) rfl 2 (by decide) (hC.2.2.2.2.1 _ q252) (fun _ h9 => h9) rfl (by decide +kernel) rfl rfl (Nat.le_of_ble_eq_true rfl) hdg (fun H locs hP hD hS => ?_)
  rw [st_sg (by decide) j hj1] at hP hD
  exact kk H locs ⟨hP, hD, hS⟩
theorem st_X2_p_gard_swept {p : Program} {l : Launch} {e : Env} {R : Room} {s s0 : State} {b0 : Addr} {m : MethodId} {args : Array Value} {below : List Frame} {meth : Method} {c : Code} {H : Heap} {locs : List Loc} {cells slots : Nat} {Q : State → Prop} {pc : Nat} {ls : Array Slot} {rest : List Value} {G : va_G} {ai : Nat → ClassId} {A : Nat → Prop} {cc : ByteArray} {nL f L kc ks : Nat} {sa : Nat → Nat} {tl : va_W} {v : MS} {k x : Int32} {z1 : MS} (hC : mo_C p R s m args meth c G ai A RX2 cc nL f L kc ks) (h0 : mo_S0 s0 b0) (hZ : mo_Z s0 A s) (hI : mo_I G A s.heap (st_W ai sa v tl) H locs) (hj : gi k 4 = true) (hM : z1 = rup v (6 + k.toNatClampNeg) (upd (v (6 + k.toNatClampNeg)) 3 x)) (hdg : decode cc pc = .ok (.putfield 21, 3)) (kk : ∀ (H1 : Heap) (locs1 : List Loc), mo_I G A s.heap (st_W ai sa z1 tl) H1 locs1 → W p l e R s m args below meth c H1 locs1 cells slots Q (F0 m (pc + 3) ls (rest))) : W p l e R s m args below meth c H locs cells slots Q (F0 m pc ls (.int x :: .ref (sa (10 + k.toNatClampNeg)) :: rest)) := by
  subst z1
  obtain ⟨j, hj1, -, hc⟩ := gi_nI (by decide) hj
  rw [hc] at kk ⊢
  refine va_put (D := G) (ci := 3) (v := .int x) (ty := .int) (C := RX2) (T := TX2) (N := 5) hC.1 hC.2.1 hC.2.2.2.2.1 in_X2 tyX2 tyX2_ok nmX2 hC.2.2.2.1 hC.2.2.2.2.2.2.1 hI.1 hI.2.1 hI.2.2 (7 + j) (st_hg j hj1) rfl 3 (by decide) (hC.2.2.2.2.1 _ q254) (fun _ h9 => h9) rfl (by decide +kernel) rfl rfl (Nat.le_of_ble_eq_true rfl) hdg (fun H locs hP hD hS => ?_)
  rw [st_sg (by decide) j hj1] at hP hD
  exact kk H locs ⟨hP, hD, hS⟩
theorem st_X2_p_gard_steps {p : Program} {l : Launch} {e : Env} {R : Room} {s s0 : State} {b0 : Addr} {m : MethodId} {args : Array Value} {below : List Frame} {meth : Method} {c : Code} {H : Heap} {locs : List Loc} {cells slots : Nat} {Q : State → Prop} {pc : Nat} {ls : Array Slot} {rest : List Value} {G : va_G} {ai : Nat → ClassId} {A : Nat → Prop} {cc : ByteArray} {nL f L kc ks : Nat} {sa : Nat → Nat} {tl : va_W} {v : MS} {k x : Int32} {z1 : MS} (hC : mo_C p R s m args meth c G ai A RX2 cc nL f L kc ks) (h0 : mo_S0 s0 b0) (hZ : mo_Z s0 A s) (hI : mo_I G A s.heap (st_W ai sa v tl) H locs) (hj : gi k 4 = true) (hM : z1 = rup v (6 + k.toNatClampNeg) (upd (v (6 + k.toNatClampNeg)) 4 x)) (hdg : decode cc pc = .ok (.putfield 24, 3)) (kk : ∀ (H1 : Heap) (locs1 : List Loc), mo_I G A s.heap (st_W ai sa z1 tl) H1 locs1 → W p l e R s m args below meth c H1 locs1 cells slots Q (F0 m (pc + 3) ls (rest))) : W p l e R s m args below meth c H locs cells slots Q (F0 m pc ls (.int x :: .ref (sa (10 + k.toNatClampNeg)) :: rest)) := by
  subst z1
  obtain ⟨j, hj1, -, hc⟩ := gi_nI (by decide) hj
  rw [hc] at kk ⊢
  refine va_put (D := G) (ci := 3) (v := .int x) (ty := .int) (C := RX2) (T := TX2) (N := 5) hC.1 hC.2.1 hC.2.2.2.2.1 in_X2 tyX2 tyX2_ok nmX2 hC.2.2.2.1 hC.2.2.2.2.2.2.1 hI.1 hI.2.1 hI.2.2 (7 + j) (st_hg j hj1) rfl 4 (by decide) (hC.2.2.2.2.1 _ q256) (fun _ h9 => h9) rfl (by decide +kernel) rfl rfl (Nat.le_of_ble_eq_true rfl) hdg (fun H locs hP hD hS => ?_)
  rw [st_sg (by decide) j hj1] at hP hD
  exact kk H locs ⟨hP, hD, hS⟩
theorem st_X3_p_mole_square {p : Program} {l : Launch} {e : Env} {R : Room} {s s0 : State} {b0 : Addr} {m : MethodId} {args : Array Value} {below : List Frame} {meth : Method} {c : Code} {H : Heap} {locs : List Loc} {cells slots : Nat} {Q : State → Prop} {pc : Nat} {ls : Array Slot} {rest : List Value} {G : va_G} {ai : Nat → ClassId} {A : Nat → Prop} {cc : ByteArray} {nL f L kc ks : Nat} {sa : Nat → Nat} {tl : va_W} {v : MS} {k x : Int32} {z1 : MS} (hC : mo_C p R s m args meth c G ai A RX3 cc nL f L kc ks) (h0 : mo_S0 s0 b0) (hZ : mo_Z s0 A s) (hI : mo_I G A s.heap (st_W ai sa v tl) H locs) (hj : gi k 3 = true) (hM : z1 = rup v (10 + k.toNatClampNeg) (upd (v (10 + k.toNatClampNeg)) 0 x)) (hdg : decode cc pc = .ok (.putfield 7, 3)) (kk : ∀ (H1 : Heap) (locs1 : List Loc), mo_I G A s.heap (st_W ai sa z1 tl) H1 locs1 → W p l e R s m args below meth c H1 locs1 cells slots Q (F0 m (pc + 3) ls (rest))) : W p l e R s m args below meth c H locs cells slots Q (F0 m pc ls (.int x :: .ref (sa (14 + k.toNatClampNeg)) :: rest)) := by
  subst z1
  obtain ⟨j, hj1, -, hc⟩ := gi_nI (by decide) hj
  rw [hc] at kk ⊢
  refine va_put (D := G) (ci := 4) (v := .int x) (ty := .int) (C := RX3) (T := TX3) (N := 3) hC.1 hC.2.1 hC.2.2.2.2.1 in_X3 tyX3 tyX3_ok nmX3 hC.2.2.2.1 hC.2.2.2.2.2.2.1 hI.1 hI.2.1 hI.2.2 (11 + j) (st_hm j hj1) rfl 0 (by decide) (hC.2.2.2.2.1 _ q274) (fun _ h9 => h9) rfl (by decide +kernel) rfl rfl (Nat.le_of_ble_eq_true rfl) hdg (fun H locs hP hD hS => ?_)
  rw [st_sm (by decide) j hj1] at hP hD
  exact kk H locs ⟨hP, hD, hS⟩
theorem st_X3_p_mole_isCaught {p : Program} {l : Launch} {e : Env} {R : Room} {s s0 : State} {b0 : Addr} {m : MethodId} {args : Array Value} {below : List Frame} {meth : Method} {c : Code} {H : Heap} {locs : List Loc} {cells slots : Nat} {Q : State → Prop} {pc : Nat} {ls : Array Slot} {rest : List Value} {G : va_G} {ai : Nat → ClassId} {A : Nat → Prop} {cc : ByteArray} {nL f L kc ks : Nat} {sa : Nat → Nat} {tl : va_W} {v : MS} {k x : Int32} {z1 : MS} (hC : mo_C p R s m args meth c G ai A RX3 cc nL f L kc ks) (h0 : mo_S0 s0 b0) (hZ : mo_Z s0 A s) (hI : mo_I G A s.heap (st_W ai sa v tl) H locs) (hj : gi k 3 = true) (hz : x = 0 ∨ x = 1) (hM : z1 = rup v (10 + k.toNatClampNeg) (upd (v (10 + k.toNatClampNeg)) 1 x)) (hdg : decode cc pc = .ok (.putfield 13, 3)) (kk : ∀ (H1 : Heap) (locs1 : List Loc), mo_I G A s.heap (st_W ai sa z1 tl) H1 locs1 → W p l e R s m args below meth c H1 locs1 cells slots Q (F0 m (pc + 3) ls (rest))) : W p l e R s m args below meth c H locs cells slots Q (F0 m pc ls (.int x :: .ref (sa (14 + k.toNatClampNeg)) :: rest)) := by
  subst z1
  obtain ⟨j, hj1, -, hc⟩ := gi_nI (by decide) hj
  rw [hc] at kk ⊢
  refine va_put (D := G) (ci := 4) (v := .int x) (ty := .boolean) (C := RX3) (T := TX3) (N := 3) hC.1 hC.2.1 hC.2.2.2.2.1 in_X3 tyX3 tyX3_ok nmX3 hC.2.2.2.1 hC.2.2.2.2.2.2.1 hI.1 hI.2.1 hI.2.2 (11 + j) (st_hm j hj1) rfl 1 (by decide) (hC.2.2.2.2.1 _ q277) (fun _ h9 => h9) rfl (by decide +kernel) (by rcases hz with h | h <;> (rw [h]; rfl)) (by rcases hz with h | h <;> (rw [h]; rfl)) (Nat.le_of_ble_eq_true rfl) hdg (fun H locs hP hD hS => ?_)
  rw [st_sm (by decide) j hj1] at hP hD
  exact kk H locs ⟨hP, hD, hS⟩
theorem st_X3_p_mole_took {p : Program} {l : Launch} {e : Env} {R : Room} {s s0 : State} {b0 : Addr} {m : MethodId} {args : Array Value} {below : List Frame} {meth : Method} {c : Code} {H : Heap} {locs : List Loc} {cells slots : Nat} {Q : State → Prop} {pc : Nat} {ls : Array Slot} {rest : List Value} {G : va_G} {ai : Nat → ClassId} {A : Nat → Prop} {cc : ByteArray} {nL f L kc ks : Nat} {sa : Nat → Nat} {tl : va_W} {v : MS} {k x : Int32} {z1 : MS} (hC : mo_C p R s m args meth c G ai A RX3 cc nL f L kc ks) (h0 : mo_S0 s0 b0) (hZ : mo_Z s0 A s) (hI : mo_I G A s.heap (st_W ai sa v tl) H locs) (hj : gi k 3 = true) (hM : z1 = rup v (10 + k.toNatClampNeg) (upd (v (10 + k.toNatClampNeg)) 2 x)) (hdg : decode cc pc = .ok (.putfield 17, 3)) (kk : ∀ (H1 : Heap) (locs1 : List Loc), mo_I G A s.heap (st_W ai sa z1 tl) H1 locs1 → W p l e R s m args below meth c H1 locs1 cells slots Q (F0 m (pc + 3) ls (rest))) : W p l e R s m args below meth c H locs cells slots Q (F0 m pc ls (.int x :: .ref (sa (14 + k.toNatClampNeg)) :: rest)) := by
  subst z1
  obtain ⟨j, hj1, -, hc⟩ := gi_nI (by decide) hj
  rw [hc] at kk ⊢
  refine va_put (D := G) (ci := 4) (v := .int x) (ty := .int) (C := RX3) (T := TX3) (N := 3) hC.1 hC.2.1 hC.2.2.2.2.1 in_X3 tyX3 tyX3_ok nmX3 hC.2.2.2.1 hC.2.2.2.2.2.2.1 hI.1 hI.2.1 hI.2.2 (11 + j) (st_hm j hj1) rfl 2 (by decide) (hC.2.2.2.2.1 _ q280) (fun _ h9 => h9) rfl (by decide +kernel) rfl rfl (Nat.le_of_ble_eq_true rfl) hdg (fun H locs hP hD hS => ?_)
  rw [st_sm (by decide) j hj1] at hP hD
  exact kk H locs ⟨hP, hD, hS⟩
theorem st_X3_g_mole_isCaught {p : Program} {l : Launch} {e : Env} {R : Room} {s s0 : State} {b0 : Addr} {m : MethodId} {args : Array Value} {below : List Frame} {meth : Method} {c : Code} {H : Heap} {locs : List Loc} {cells slots : Nat} {Q : State → Prop} {pc : Nat} {ls : Array Slot} {rest : List Value} {G : va_G} {ai : Nat → ClassId} {A : Nat → Prop} {cc : ByteArray} {nL f L kc ks : Nat} {sa : Nat → Nat} {tl : va_W} {v : MS} {k : Int32} (hC : mo_C p R s m args meth c G ai A RX3 cc nL f L kc ks) (h0 : mo_S0 s0 b0) (hZ : mo_Z s0 A s) (hI : mo_I G A s.heap (st_W ai sa v tl) H locs) (hj : gi k 3 = true) (hdg : decode cc pc = .ok (.getfield 13, 3)) (kk : W p l e R s m args below meth c H locs cells slots Q (F0 m (pc + 3) ls (.int (v (10 + k.toNatClampNeg) 1) :: rest))) : W p l e R s m args below meth c H locs cells slots Q (F0 m pc ls (.ref (sa (14 + k.toNatClampNeg)) :: rest)) := by
  obtain ⟨j, hj1, -, hc⟩ := gi_nI (by decide) hj
  rw [hc] at kk ⊢
  exact va_get (D := G) (ci := 4) (C := RX3) (T := TX3) (N := 3) hC.1 hC.2.1 hC.2.2.2.2.1 in_X3 hC.2.2.2.1 hC.2.2.2.2.2.2.1 hI.1 (11 + j) (st_hm j hj1) rfl 1 (by decide) (hC.2.2.2.2.1 _ q277) (fun _ h9 => h9) rfl hdg kk
theorem st_X3_g_mole_square {p : Program} {l : Launch} {e : Env} {R : Room} {s s0 : State} {b0 : Addr} {m : MethodId} {args : Array Value} {below : List Frame} {meth : Method} {c : Code} {H : Heap} {locs : List Loc} {cells slots : Nat} {Q : State → Prop} {pc : Nat} {ls : Array Slot} {rest : List Value} {G : va_G} {ai : Nat → ClassId} {A : Nat → Prop} {cc : ByteArray} {nL f L kc ks : Nat} {sa : Nat → Nat} {tl : va_W} {v : MS} {k : Int32} (hC : mo_C p R s m args meth c G ai A RX3 cc nL f L kc ks) (h0 : mo_S0 s0 b0) (hZ : mo_Z s0 A s) (hI : mo_I G A s.heap (st_W ai sa v tl) H locs) (hj : gi k 3 = true) (hdg : decode cc pc = .ok (.getfield 7, 3)) (kk : W p l e R s m args below meth c H locs cells slots Q (F0 m (pc + 3) ls (.int (v (10 + k.toNatClampNeg) 0) :: rest))) : W p l e R s m args below meth c H locs cells slots Q (F0 m pc ls (.ref (sa (14 + k.toNatClampNeg)) :: rest)) := by
  obtain ⟨j, hj1, -, hc⟩ := gi_nI (by decide) hj
  rw [hc] at kk ⊢
  exact va_get (D := G) (ci := 4) (C := RX3) (T := TX3) (N := 3) hC.1 hC.2.1 hC.2.2.2.2.1 in_X3 hC.2.2.2.1 hC.2.2.2.2.2.2.1 hI.1 (11 + j) (st_hm j hj1) rfl 0 (by decide) (hC.2.2.2.2.1 _ q274) (fun _ h9 => h9) rfl hdg kk
def p_within (a0 : Int32) (a1 : Int32) (a2 : Int32) : Int32 := if a0 < a1 then 0 else (if a2 < a0 then 0 else 1)
theorem b_within (a0 : Int32) (a1 : Int32) (a2 : Int32) : p_within a0 a1 a2 = 0 ∨ p_within a0 a1 a2 = 1 := by
  unfold p_within
  (repeat' split) <;> simp
theorem w_p_within (l : Launch) (a0 : Int32) (a1 : Int32) (a2 : Int32) (v0 : Int32) (hF : p_within a0 a1 a2 = v0) : pu_Met l yX0_within cX0_within 3 (some .boolean) ({ frames := 0, cells := 0, slots := 0, locals := 0 } : Room) [.int a0, .int a1, .int a2] (.int v0) := by
  refine pu_body (by decide) (Nat.le_of_ble_eq_true rfl) ?_
  intro p e s m args below meth c ls hN hr hl
  have hx := hN.1
  have hb := hN.2.1
  have hl : lv_has ls 3 [(0, .int a0), (1, .int a1), (2, .int a2)] := hl
  rw [p_within] at hF
  refine lv_iload_n hx hb dX0_within_0 rfl (lv_at hl 0 rfl) ?_
  refine lv_iload_n hx hb dX0_within_1 rfl (lv_at hl 1 rfl) ?_
  refine lv_icmp_lt (tgt := 14) hx hb dX0_within_2 (by decide) (fun c1 => ?_) (fun c1 => ?_)
  · have hF := if_tv hF c1
    refine lv_iconst (v := 0) hx hb dX0_within_14 (by decide) ?_
    subst hF
    exact pu_iret (v := 0) hN hr rfl dX0_within_15
  · have hF := if_fv hF c1
    refine lv_iload_n hx hb dX0_within_5 rfl (lv_at hl 0 rfl) ?_
    refine lv_iload_n hx hb dX0_within_6 rfl (lv_at hl 2 rfl) ?_
    refine lv_icmp_gt (tgt := 14) hx hb dX0_within_7 (by decide) (fun c2 => ?_) (fun c2 => ?_)
    · have hF := if_tv hF c2
      refine lv_iconst (v := 0) hx hb dX0_within_14 (by decide) ?_
      subst hF
      exact pu_iret (v := 0) hN hr rfl dX0_within_15
    · have hF := if_fv hF c2
      refine lv_iconst (v := 1) hx hb dX0_within_10 (by decide) ?_
      refine lv_goto (tgt := 15) hx hb dX0_within_11 (by decide) ?_
      subst hF
      exact pu_iret (v := 1) hN hr rfl dX0_within_15
theorem k_X0_within {p : Program} {l : Launch} {e : Env} {R : Room} {s : State} {m : MethodId} {args : Array Value} {below : List Frame} {meth : Method} {c : Code} {H : Heap} {locs : List Loc} {cells slots : Nat} {Q : State → Prop} {pc : Nat} {ls : Array Slot} {rest : List Value} {cc : ByteArray} {nL f L : Nat} {a0 : Int32} {a1 : Int32} {a2 : Int32} (hN : mo_N p R s m args meth c RX0 cc nL f L) (hf : 0 + 1 ≤ f) (hL : 8 + (3 + 11) + 0 ≤ L) (hsz : ls.size = nL) (hW : (rest.map fun v => v.category).sum ≤ 8) (hdg : decode cc pc = .ok (.invokestatic 140, 3)) (kk : W p l e R s m args below meth c H locs cells slots Q (F0 m (pc + 3) ls (.int (p_within a0 a1 a2) :: rest))) (hc0 : cells ≤ R.cells := by first | exact Nat.zero_le _ | exact Nat.le_of_ble_eq_true rfl | assumption | omega) (hs0 : slots ≤ R.slots := by first | exact Nat.zero_le _ | exact Nat.le_of_ble_eq_true rfl | assumption | omega) : W p l e R s m args below meth c H locs cells slots Q (F0 m pc ls (.int a2 :: .int a1 :: .int a0 :: rest)) :=
  pu_cS hN 3 (w_p_within l a0 a1 a2 _ rfl) q633 q634 q115 q635 rfl rfl (by decide +kernel) rfl hf hL hc0 hs0 hsz rfl hW hdg kk
theorem k_X1_within {p : Program} {l : Launch} {e : Env} {R : Room} {s s0 : State} {b0 : Addr} {m : MethodId} {args : Array Value} {below : List Frame} {meth : Method} {c : Code} {H : Heap} {locs : List Loc} {cells slots : Nat} {Q : State → Prop} {pc : Nat} {ls : Array Slot} {rest : List Value} {G : va_G} {ai : Nat → ClassId} {A : Nat → Prop} {cc : ByteArray} {nL f L kc ks : Nat} {a0 : Int32} {a1 : Int32} {a2 : Int32} (hC : mo_C p R s m args meth c G ai A RX1 cc nL f L kc ks) (h0 : mo_S0 s0 b0) (hZ : mo_Z s0 A s) (hf : 0 + 1 ≤ f) (hL : 8 + (3 + 11) + 0 ≤ L) (hsz : ls.size = nL) (hW : (rest.map fun v => v.category).sum ≤ 8) (hdg : decode cc pc = .ok (.invokestatic 116, 3)) (kk : W p l e R s m args below meth c H locs cells slots Q (F0 m (pc + 3) ls (.int (p_within a0 a1 a2) :: rest))) (hc0 : cells ≤ kc := by first | exact Nat.zero_le _ | exact Nat.le_of_ble_eq_true rfl | assumption | omega) (hs0 : slots ≤ ks := by first | exact Nat.zero_le _ | exact Nat.le_of_ble_eq_true rfl | assumption | omega) : W p l e R s m args below meth c H locs cells slots Q (F0 m pc ls (.int a2 :: .int a1 :: .int a0 :: rest)) :=
  pu_call (a := ([.int a0, .int a1, .int a2] : List Value).toArray) (va_runSN (As := [.int a0, .int a1, .int a2]) (rest := rest) ⟨hC.1, hC.2.1, hC.2.2.1, hC.2.2.2.1, hC.2.2.2.2.1⟩ (w_p_within l a0 a1 a2 _ rfl) ⟨va_cnB 3 hC.2.2.2.2.1 (lw_meth q635) rfl rfl rfl (mo_nM h0 hZ q1164) (hC.2.2.2.2.1 _ q115) (by decide +kernel) ⟨Nat.le_trans hf hC.2.2.2.2.2.2.2.2.1, Nat.le_trans hL hC.2.2.2.2.2.2.2.2.2.1⟩, hC.2.2.2.2.1 _ q634, trivial⟩ ⟨fun a U g mk q => q, fun U hU hW => rfl⟩ rfl rfl hsz rfl (lv_room hW) hdg ⟨Nat.le_trans hc0 hC.2.2.2.2.2.2.2.2.2.2.1, Nat.le_trans hs0 hC.2.2.2.2.2.2.2.2.2.2.2⟩) kk
def f_st_mayBeTrodden (v : MS) (a1 : Int32) : Option Int32 := gd (gi a1 30) (if (p_within (v 2 a1.toNatClampNeg) 1 5) = 0 then (some 1) else (some 0))
set_option maxHeartbeats 4000000 in
theorem w_st_mayBeTrodden (l : Launch) (G : va_G) (ai : Nat → ClassId) {s0 : State} {b0 : Addr} (h0 : mo_S0 s0 b0) {sa : Nat → Nat} {tl : va_W} (v : MS) (a1 : Int32) (r0 : Int32) (hF : f_st_mayBeTrodden v a1 = some r0) : rd_Met l G ai s0 yX1_mayBeTrodden cX1_mayBeTrodden 2 (some .boolean) ({ frames := 1, cells := 0, slots := 0, locals := 22 } : Room) [.ref (sa 0), .int a1] (st_W ai sa v tl) (.int r0) := by
  refine gz_body (Qc := fun _ => rd_Q (.int r0)) (fr := fun _ _ => False) (by decide) (Nat.le_of_ble_eq_true rfl) ?_
  intro p e s m args below meth c A ls hC hZ hr hI hl hnm
  have hx := hC.1
  have hb := hC.2.1
  have hl : lv_has ls 2 [(0, .ref (sa 0)), (1, .int a1)] := hl
  show W p l e _ s m args below meth c s.heap [] 0 0 (MQ below (rd_Q (.int r0)) args s 0 0 (fun _ => False)) (F0 m 0 ls [])
  rw [f_st_mayBeTrodden] at hF
  refine lv_aload_n hx hb dX1_mayBeTrodden_0 rfl (lv_at hl 0 rfl) ?_
  refine st_X1_g_st_moss hC h0 hZ hI dX1_mayBeTrodden_1 ?_
  refine lv_iload_n hx hb dX1_mayBeTrodden_4 rfl (lv_at hl 1 rfl) ?_
  obtain ⟨hg1, hF⟩ := gd_some hF
  refine st_l_moss hC hI hg1 dX1_mayBeTrodden_5 ?_
  refine lv_iconst (v := 1) hx hb dX1_mayBeTrodden_6 (by decide) ?_
  refine lv_iconst (v := 5) hx hb dX1_mayBeTrodden_7 (by decide) ?_
  refine k_X1_within hC h0 hZ (Nat.le_of_ble_eq_true rfl) (Nat.le_of_ble_eq_true rfl) hl.1 (Nat.le_of_ble_eq_true rfl) dX1_mayBeTrodden_8 ?_
  refine lv_if_ne (tgt := 18) hx hb dX1_mayBeTrodden_11 (by decide) (fun c2 => ?_) (fun c2 => ?_)
  · have hF := if_f hF c2
    refine lv_iconst (v := 0) hx hb dX1_mayBeTrodden_18 (by decide) ?_
    have hF := Option.some.inj hF
    subst hF
    exact rd_iret hC hr rfl dX1_mayBeTrodden_19
  · have hF := if_t hF c2
    refine lv_iconst (v := 1) hx hb dX1_mayBeTrodden_14 (by decide) ?_
    refine lv_goto (tgt := 19) hx hb dX1_mayBeTrodden_15 (by decide) ?_
    have hF := Option.some.inj hF
    subst hF
    exact rd_iret hC hr rfl dX1_mayBeTrodden_19
theorem k_X0_st_mayBeTrodden {p : Program} {l : Launch} {e : Env} {R : Room} {s s0 : State} {b0 : Addr} {m : MethodId} {args : Array Value} {below : List Frame} {meth : Method} {c : Code} {H : Heap} {locs : List Loc} {cells slots : Nat} {Q : State → Prop} {pc : Nat} {ls : Array Slot} {rest : List Value} {G : va_G} {ai : Nat → ClassId} {A : Nat → Prop} {cc : ByteArray} {nL f L kc ks : Nat} {sa : Nat → Nat} {tl : va_W} {v : MS} {a1 : Int32}  {r1 : Int32} (hC : mo_C p R s m args meth c G ai A RX0 cc nL f L kc ks) (h0 : mo_S0 s0 b0) (hZ : mo_Z s0 A s) (hI : mo_I G A s.heap (st_W ai sa v tl) H locs) (hz : f_st_mayBeTrodden v a1 = some r1) (hf : 1 + 1 ≤ f) (hL : 8 + (2 + 11) + 22 ≤ L) (hsz : ls.size = nL) (hW : (rest.map fun v => v.category).sum ≤ 8) (hdg : decode cc pc = .ok (.invokevirtual 336, 3)) (kk : W p l e R s m args below meth c H locs cells slots Q (F0 m (pc + 3) ls (.int r1 :: rest))) (hc0 : cells ≤ kc := by first | exact Nat.zero_le _ | exact Nat.le_of_ble_eq_true rfl | assumption | omega) (hs0 : slots ≤ ks := by first | exact Nat.zero_le _ | exact Nat.le_of_ble_eq_true rfl | assumption | omega) : W p l e R s m args below meth c H locs cells slots Q (F0 m pc ls (.int a1 :: .ref (sa 0) :: rest)) :=
  rd_use (va_runV (As := [.int a1]) (rest := rest) ⟨hC.1, hC.2.1, hC.2.2.1, hC.2.2.2.1, hC.2.2.2.2.1⟩ (w_st_mayBeTrodden l G ai h0 v a1 r1 hz H.size) (cwV 1 hC.2.2.2.2.1 (lw_V q1160 q1161 q1162 q116 q1163) rfl rfl rfl (by decide +kernel) ⟨Nat.le_trans hf hC.2.2.2.2.2.2.2.2.1, Nat.le_trans hL hC.2.2.2.2.2.2.2.2.2.1⟩) ⟨gz_blind, (va_recv hC.2.2.2.2.2.2.1 hI.1 (ci := 2) (q0 := 0) rfl rfl), gz_pre0 hC hZ hI⟩ rfl rfl hsz rfl (lv_room hW) hdg ⟨Nat.le_trans hc0 hC.2.2.2.2.2.2.2.2.2.2.1, Nat.le_trans hs0 hC.2.2.2.2.2.2.2.2.2.2.2⟩) kk
def f_st_loses (v : MS) (a1 : Int32) (a2 : Int32) : Option ((Int32 × MS)) := gd (gi a1 30) (gd (gi a1 30) (lt (rup v 2 (upd (v 2) a1.toNatClampNeg ((v 2 a1.toNatClampNeg) - a2))) (fun v3 => lt (rup v3 0 (upd (v3 0) 15 ((v3 0 15) + a2))) (fun v4 => some (0, v4)))))
set_option maxHeartbeats 4000000 in
theorem w_st_loses (l : Launch) (G : va_G) (ai : Nat → ClassId) {s0 : State} {b0 : Addr} (h0 : mo_S0 s0 b0) {sa : Nat → Nat} {tl : va_W} (v : MS) (a1 : Int32) (a2 : Int32) (r0 : Int32) (u0 : MS) (hF : f_st_loses v a1 a2 = some (r0, u0)) : gz_Mv l G ai s0 (fun v => (st_W ai sa v tl)) yX1_loses cX1_loses 3 ({ frames := 0, cells := 0, slots := 0, locals := 0 } : Room) [.ref (sa 0), .int a1, .int a2] (st_W ai sa v tl) (fun (u : MS) => u = u0) 0 0 := by
  refine gz_body (Qc := fun A => va_Qv (fun (u : MS) => u = u0) (gw_E G ai (fun v => (st_W ai sa v tl)) A) A) (fr := fun A => A) (by decide) (Nat.le_of_ble_eq_true rfl) ?_
  intro p e s m args below meth c A ls hC hZ hr hI hl hnm
  have hx := hC.1
  have hb := hC.2.1
  have hl : lv_has ls 3 [(0, .ref (sa 0)), (1, .int a1), (2, .int a2)] := hl
  show W p l e _ s m args below meth c s.heap [] 0 0 (MQ below (va_Qv (fun (u : MS) => u = u0) (gw_E G ai (fun v => (st_W ai sa v tl)) A) A) args s 0 0 A) (F0 m 0 ls [])
  rw [f_st_loses] at hF
  refine lv_aload_n hx hb dX1_loses_0 rfl (lv_at hl 0 rfl) ?_
  refine st_X1_g_st_moss hC h0 hZ hI dX1_loses_1 ?_
  refine lv_iload_n hx hb dX1_loses_4 rfl (lv_at hl 1 rfl) ?_
  refine lv_dup2_11 hx hb dX1_loses_5 rfl rfl ?_
  obtain ⟨hg1, hF⟩ := gd_some hF
  refine st_l_moss hC hI hg1 dX1_loses_6 ?_
  refine lv_iload_n hx hb dX1_loses_7 rfl (lv_at hl 2 rfl) ?_
  refine lv_isub hx hb dX1_loses_8 ?_
  obtain ⟨hg2, hF⟩ := gd_some hF
  obtain ⟨v3, hv3, hF⟩ := lt_some hF
  refine st_s_moss hC hI hg2 hv3 dX1_loses_9 (fun H locs hI => ?_)
  refine lv_aload_n hx hb dX1_loses_10 rfl (lv_at hl 0 rfl) ?_
  refine lv_dup hx hb dX1_loses_11 rfl ?_
  refine st_X1_g_st_lost hC h0 hZ hI dX1_loses_12 ?_
  refine lv_iload_n hx hb dX1_loses_15 rfl (lv_at hl 2 rfl) ?_
  refine lv_iadd hx hb dX1_loses_16 ?_
  obtain ⟨v4, hv4, hF⟩ := lt_some hF
  refine st_X1_p_st_lost hC h0 hZ hI hv4 dX1_loses_17 (fun H locs hI => ?_)
  cases hF
  exact W.vret hx hb hr (fun t ht hW => ⟨⟨_, rfl, rfl, by rw [ht]; exact hI.1, va_K.moved hW.alike hC.2.2.2.2.2.2.1, hI.2.1⟩, hI.2.2.F ht⟩) hI.2.2.2.2 dX1_loses_20 hC.2.2.2.2.2.1
theorem k_X0_st_loses {p : Program} {l : Launch} {e : Env} {R : Room} {s s0 : State} {b0 : Addr} {m : MethodId} {args : Array Value} {below : List Frame} {meth : Method} {c : Code} {H : Heap} {locs : List Loc} {cells slots : Nat} {Q : State → Prop} {pc : Nat} {ls : Array Slot} {rest : List Value} {G : va_G} {ai : Nat → ClassId} {A : Nat → Prop} {cc : ByteArray} {nL f L kc ks : Nat} {sa : Nat → Nat} {tl : va_W} {v : MS} {a1 : Int32} {a2 : Int32}  {r1 : Int32} {u1 : MS} (hC : mo_C p R s m args meth c G ai A RX0 cc nL f L kc ks) (h0 : mo_S0 s0 b0) (hZ : mo_Z s0 A s) (hI : mo_I G A s.heap (st_W ai sa v tl) H locs) (hz : f_st_loses v a1 a2 = some (r1, u1)) (hf : 0 + 1 ≤ f) (hL : 8 + (3 + 11) + 0 ≤ L) (hsz : ls.size = nL) (hW : (rest.map fun v => v.category).sum ≤ 8) (hdg : decode cc pc = .ok (.invokevirtual 212, 3)) (kk : ∀ (H1 : Heap) (locs1 : List Loc), mo_I G A s.heap (st_W ai sa u1 tl) H1 locs1 → W p l e R s m args below meth c H1 locs1 cells slots Q (F0 m (pc + 3) ls (rest))) (hc0 : cells + 0 ≤ kc := by first | exact Nat.zero_le _ | exact Nat.le_of_ble_eq_true rfl | assumption | omega) (hs0 : slots + 0 ≤ ks := by first | exact Nat.zero_le _ | exact Nat.le_of_ble_eq_true rfl | assumption | omega) : W p l e R s m args below meth c H locs cells slots Q (F0 m pc ls (.int a2 :: .int a1 :: .ref (sa 0) :: rest)) :=
  gz_usev0 hC.2.2.2.2.2.2.2.1 hI (va_runV (As := [.int a1, .int a2]) (rest := rest) ⟨hC.1, hC.2.1, hC.2.2.1, hC.2.2.2.1, hC.2.2.2.2.1⟩ (w_st_loses l G ai h0 v a1 a2 r1 u1 hz H.size) (cwV 2 hC.2.2.2.2.1 (lw_V q917 q918 q919 q116 q920) rfl rfl rfl (by decide +kernel) ⟨Nat.le_trans hf hC.2.2.2.2.2.2.2.2.1, Nat.le_trans hL hC.2.2.2.2.2.2.2.2.2.1⟩) ⟨gz_blind, (va_recv hC.2.2.2.2.2.2.1 hI.1 (ci := 2) (q0 := 0) rfl rfl), gz_pre0 hC hZ hI⟩ rfl rfl hsz rfl (lv_room hW) hdg ⟨Nat.le_trans hc0 hC.2.2.2.2.2.2.2.2.2.2.1, Nat.le_trans hs0 hC.2.2.2.2.2.2.2.2.2.2.2⟩) (fun u H1 locs1 hp hI1 => by cases hp; exact kk H1 locs1 hI1)
theorem k_X1_st_loses {p : Program} {l : Launch} {e : Env} {R : Room} {s s0 : State} {b0 : Addr} {m : MethodId} {args : Array Value} {below : List Frame} {meth : Method} {c : Code} {H : Heap} {locs : List Loc} {cells slots : Nat} {Q : State → Prop} {pc : Nat} {ls : Array Slot} {rest : List Value} {G : va_G} {ai : Nat → ClassId} {A : Nat → Prop} {cc : ByteArray} {nL f L kc ks : Nat} {sa : Nat → Nat} {tl : va_W} {v : MS} {a1 : Int32} {a2 : Int32}  {r1 : Int32} {u1 : MS} (hC : mo_C p R s m args meth c G ai A RX1 cc nL f L kc ks) (h0 : mo_S0 s0 b0) (hZ : mo_Z s0 A s) (hI : mo_I G A s.heap (st_W ai sa v tl) H locs) (hz : f_st_loses v a1 a2 = some (r1, u1)) (hf : 0 + 1 ≤ f) (hL : 8 + (3 + 11) + 0 ≤ L) (hsz : ls.size = nL) (hW : (rest.map fun v => v.category).sum ≤ 8) (hdg : decode cc pc = .ok (.invokevirtual 126, 3)) (kk : ∀ (H1 : Heap) (locs1 : List Loc), mo_I G A s.heap (st_W ai sa u1 tl) H1 locs1 → W p l e R s m args below meth c H1 locs1 cells slots Q (F0 m (pc + 3) ls (rest))) (hc0 : cells + 0 ≤ kc := by first | exact Nat.zero_le _ | exact Nat.le_of_ble_eq_true rfl | assumption | omega) (hs0 : slots + 0 ≤ ks := by first | exact Nat.zero_le _ | exact Nat.le_of_ble_eq_true rfl | assumption | omega) : W p l e R s m args below meth c H locs cells slots Q (F0 m pc ls (.int a2 :: .int a1 :: .ref (sa 0) :: rest)) :=
  gz_usev0 hC.2.2.2.2.2.2.2.1 hI (va_runV (As := [.int a1, .int a2]) (rest := rest) ⟨hC.1, hC.2.1, hC.2.2.1, hC.2.2.2.1, hC.2.2.2.2.1⟩ (w_st_loses l G ai h0 v a1 a2 r1 u1 hz H.size) (cwV 2 hC.2.2.2.2.1 (lw_V q1070 q918 q919 q116 q920) rfl rfl rfl (by decide +kernel) ⟨Nat.le_trans hf hC.2.2.2.2.2.2.2.2.1, Nat.le_trans hL hC.2.2.2.2.2.2.2.2.2.1⟩) ⟨gz_blind, (va_recv hC.2.2.2.2.2.2.1 hI.1 (ci := 2) (q0 := 0) rfl rfl), gz_pre0 hC hZ hI⟩ rfl rfl hsz rfl (lv_room hW) hdg ⟨Nat.le_trans hc0 hC.2.2.2.2.2.2.2.2.2.2.1, Nat.le_trans hs0 hC.2.2.2.2.2.2.2.2.2.2.2⟩) (fun u H1 locs1 hp hI1 => by cases hp; exact kk H1 locs1 hI1)
def f_st_grows (v : MS) (a1 : Int32) (a2 : Int32) : Option ((Int32 × MS)) := gd (gi a1 30) (lt ((p_mmin a2 (20 - (v 2 a1.toNatClampNeg)))) (fun x3_2 => gd (gi a1 30) (gd (gi a1 30) (lt (rup v 2 (upd (v 2) a1.toNatClampNeg ((v 2 a1.toNatClampNeg) + x3_2))) (fun v5 => lt (rup v5 0 (upd (v5 0) 14 ((v5 0 14) + x3_2))) (fun v6 => some (0, v6)))))))
set_option maxHeartbeats 4000000 in
theorem w_st_grows (l : Launch) (G : va_G) (ai : Nat → ClassId) {s0 : State} {b0 : Addr} (h0 : mo_S0 s0 b0) {sa : Nat → Nat} {tl : va_W} (v : MS) (a1 : Int32) (a2 : Int32) (r0 : Int32) (u0 : MS) (hF : f_st_grows v a1 a2 = some (r0, u0)) : gz_Mv l G ai s0 (fun v => (st_W ai sa v tl)) yX1_grows cX1_grows 4 ({ frames := 1, cells := 0, slots := 0, locals := 21 } : Room) [.ref (sa 0), .int a1, .int a2] (st_W ai sa v tl) (fun (u : MS) => u = u0) 0 0 := by
  refine gz_body (Qc := fun A => va_Qv (fun (u : MS) => u = u0) (gw_E G ai (fun v => (st_W ai sa v tl)) A) A) (fr := fun A => A) (by decide) (Nat.le_of_ble_eq_true rfl) ?_
  intro p e s m args below meth c A ls hC hZ hr hI hl hnm
  have hx := hC.1
  have hb := hC.2.1
  have hl : lv_has ls 4 [(0, .ref (sa 0)), (1, .int a1), (2, .int a2)] := hl
  show W p l e _ s m args below meth c s.heap [] 0 0 (MQ below (va_Qv (fun (u : MS) => u = u0) (gw_E G ai (fun v => (st_W ai sa v tl)) A) A) args s 0 0 A) (F0 m 0 ls [])
  rw [f_st_grows] at hF
  refine lv_iload_n hx hb dX1_grows_0 rfl (lv_at hl 2 rfl) ?_
  refine lv_bipush (v := 20) hx hb dX1_grows_1 (by decide) ?_
  refine lv_aload_n hx hb dX1_grows_3 rfl (lv_at hl 0 rfl) ?_
  refine st_X1_g_st_moss hC h0 hZ hI dX1_grows_4 ?_
  refine lv_iload_n hx hb dX1_grows_7 rfl (lv_at hl 1 rfl) ?_
  obtain ⟨hg1, hF⟩ := gd_some hF
  refine st_l_moss hC hI hg1 dX1_grows_8 ?_
  refine lv_isub hx hb dX1_grows_9 ?_
  refine mo_min (mo_CN hC) q1041 (Nat.le_of_ble_eq_true rfl) (Nat.le_of_ble_eq_true rfl) hl.1 (Nat.le_of_ble_eq_true rfl) dX1_grows_10 ?_
  obtain ⟨x3_2, hx3_2, hF⟩ := lt_some hF
  refine mo_ist (lv' := [(3, .int x3_2), (0, .ref (sa 0)), (1, .int a1), (2, .int a2)]) hx hb hx3_2 dX1_grows_13 rfl hl (by decide) rfl (fun ls hl => ?_)
  refine lv_aload_n hx hb dX1_grows_14 rfl (lv_at hl 1 rfl) ?_
  refine st_X1_g_st_moss hC h0 hZ hI dX1_grows_15 ?_
  refine lv_iload_n hx hb dX1_grows_18 rfl (lv_at hl 2 rfl) ?_
  refine lv_dup2_11 hx hb dX1_grows_19 rfl rfl ?_
  obtain ⟨hg3, hF⟩ := gd_some hF
  refine st_l_moss hC hI hg3 dX1_grows_20 ?_
  refine lv_iload_n hx hb dX1_grows_21 rfl (lv_at hl 0 rfl) ?_
  refine lv_iadd hx hb dX1_grows_22 ?_
  obtain ⟨hg4, hF⟩ := gd_some hF
  obtain ⟨v5, hv5, hF⟩ := lt_some hF
  refine st_s_moss hC hI hg4 hv5 dX1_grows_23 (fun H locs hI => ?_)
  refine lv_aload_n hx hb dX1_grows_24 rfl (lv_at hl 1 rfl) ?_
  refine lv_dup hx hb dX1_grows_25 rfl ?_
  refine st_X1_g_st_grown hC h0 hZ hI dX1_grows_26 ?_
  refine lv_iload_n hx hb dX1_grows_29 rfl (lv_at hl 0 rfl) ?_
  refine lv_iadd hx hb dX1_grows_30 ?_
  obtain ⟨v6, hv6, hF⟩ := lt_some hF
  refine st_X1_p_st_grown hC h0 hZ hI hv6 dX1_grows_31 (fun H locs hI => ?_)
  cases hF
  exact W.vret hx hb hr (fun t ht hW => ⟨⟨_, rfl, rfl, by rw [ht]; exact hI.1, va_K.moved hW.alike hC.2.2.2.2.2.2.1, hI.2.1⟩, hI.2.2.F ht⟩) hI.2.2.2.2 dX1_grows_34 hC.2.2.2.2.2.1
theorem k_X0_st_grows {p : Program} {l : Launch} {e : Env} {R : Room} {s s0 : State} {b0 : Addr} {m : MethodId} {args : Array Value} {below : List Frame} {meth : Method} {c : Code} {H : Heap} {locs : List Loc} {cells slots : Nat} {Q : State → Prop} {pc : Nat} {ls : Array Slot} {rest : List Value} {G : va_G} {ai : Nat → ClassId} {A : Nat → Prop} {cc : ByteArray} {nL f L kc ks : Nat} {sa : Nat → Nat} {tl : va_W} {v : MS} {a1 : Int32} {a2 : Int32}  {r1 : Int32} {u1 : MS} (hC : mo_C p R s m args meth c G ai A RX0 cc nL f L kc ks) (h0 : mo_S0 s0 b0) (hZ : mo_Z s0 A s) (hI : mo_I G A s.heap (st_W ai sa v tl) H locs) (hz : f_st_grows v a1 a2 = some (r1, u1)) (hf : 1 + 1 ≤ f) (hL : 8 + (4 + 11) + 21 ≤ L) (hsz : ls.size = nL) (hW : (rest.map fun v => v.category).sum ≤ 8) (hdg : decode cc pc = .ok (.invokevirtual 301, 3)) (kk : ∀ (H1 : Heap) (locs1 : List Loc), mo_I G A s.heap (st_W ai sa u1 tl) H1 locs1 → W p l e R s m args below meth c H1 locs1 cells slots Q (F0 m (pc + 3) ls (rest))) (hc0 : cells + 0 ≤ kc := by first | exact Nat.zero_le _ | exact Nat.le_of_ble_eq_true rfl | assumption | omega) (hs0 : slots + 0 ≤ ks := by first | exact Nat.zero_le _ | exact Nat.le_of_ble_eq_true rfl | assumption | omega) : W p l e R s m args below meth c H locs cells slots Q (F0 m pc ls (.int a2 :: .int a1 :: .ref (sa 0) :: rest)) :=
  gz_usev0 hC.2.2.2.2.2.2.2.1 hI (va_runV (As := [.int a1, .int a2]) (rest := rest) ⟨hC.1, hC.2.1, hC.2.2.1, hC.2.2.2.1, hC.2.2.2.2.1⟩ (w_st_grows l G ai h0 v a1 a2 r1 u1 hz H.size) (cwV 2 hC.2.2.2.2.1 (lw_V q1037 q1038 q1039 q116 q1040) rfl rfl rfl (by decide +kernel) ⟨Nat.le_trans hf hC.2.2.2.2.2.2.2.2.1, Nat.le_trans hL hC.2.2.2.2.2.2.2.2.2.1⟩) ⟨gz_blind, (va_recv hC.2.2.2.2.2.2.1 hI.1 (ci := 2) (q0 := 0) rfl rfl), gz_pre0 hC hZ hI⟩ rfl rfl hsz rfl (lv_room hW) hdg ⟨Nat.le_trans hc0 hC.2.2.2.2.2.2.2.2.2.2.1, Nat.le_trans hs0 hC.2.2.2.2.2.2.2.2.2.2.2⟩) (fun u H1 locs1 hp hI1 => by cases hp; exact kk H1 locs1 hI1)
theorem k_X1_st_grows {p : Program} {l : Launch} {e : Env} {R : Room} {s s0 : State} {b0 : Addr} {m : MethodId} {args : Array Value} {below : List Frame} {meth : Method} {c : Code} {H : Heap} {locs : List Loc} {cells slots : Nat} {Q : State → Prop} {pc : Nat} {ls : Array Slot} {rest : List Value} {G : va_G} {ai : Nat → ClassId} {A : Nat → Prop} {cc : ByteArray} {nL f L kc ks : Nat} {sa : Nat → Nat} {tl : va_W} {v : MS} {a1 : Int32} {a2 : Int32}  {r1 : Int32} {u1 : MS} (hC : mo_C p R s m args meth c G ai A RX1 cc nL f L kc ks) (h0 : mo_S0 s0 b0) (hZ : mo_Z s0 A s) (hI : mo_I G A s.heap (st_W ai sa v tl) H locs) (hz : f_st_grows v a1 a2 = some (r1, u1)) (hf : 1 + 1 ≤ f) (hL : 8 + (4 + 11) + 21 ≤ L) (hsz : ls.size = nL) (hW : (rest.map fun v => v.category).sum ≤ 8) (hdg : decode cc pc = .ok (.invokevirtual 130, 3)) (kk : ∀ (H1 : Heap) (locs1 : List Loc), mo_I G A s.heap (st_W ai sa u1 tl) H1 locs1 → W p l e R s m args below meth c H1 locs1 cells slots Q (F0 m (pc + 3) ls (rest))) (hc0 : cells + 0 ≤ kc := by first | exact Nat.zero_le _ | exact Nat.le_of_ble_eq_true rfl | assumption | omega) (hs0 : slots + 0 ≤ ks := by first | exact Nat.zero_le _ | exact Nat.le_of_ble_eq_true rfl | assumption | omega) : W p l e R s m args below meth c H locs cells slots Q (F0 m pc ls (.int a2 :: .int a1 :: .ref (sa 0) :: rest)) :=
  gz_usev0 hC.2.2.2.2.2.2.2.1 hI (va_runV (As := [.int a1, .int a2]) (rest := rest) ⟨hC.1, hC.2.1, hC.2.2.1, hC.2.2.2.1, hC.2.2.2.2.1⟩ (w_st_grows l G ai h0 v a1 a2 r1 u1 hz H.size) (cwV 2 hC.2.2.2.2.1 (lw_V q1071 q1038 q1039 q116 q1040) rfl rfl rfl (by decide +kernel) ⟨Nat.le_trans hf hC.2.2.2.2.2.2.2.2.1, Nat.le_trans hL hC.2.2.2.2.2.2.2.2.2.1⟩) ⟨gz_blind, (va_recv hC.2.2.2.2.2.2.1 hI.1 (ci := 2) (q0 := 0) rfl rfl), gz_pre0 hC hZ hI⟩ rfl rfl hsz rfl (lv_room hW) hdg ⟨Nat.le_trans hc0 hC.2.2.2.2.2.2.2.2.2.2.1, Nat.le_trans hs0 hC.2.2.2.2.2.2.2.2.2.2.2⟩) (fun u H1 locs1 hp hI1 => by cases hp; exact kk H1 locs1 hI1)
def f_st_mossDay (v : MS) (a1 : Int32) : Option ((Int32 × MS)) := gd (gi a1 30) (if (v 2 a1.toNatClampNeg) = 0 then (some (0, v)) else (gd (gi a1 30) (if (v 3 a1.toNatClampNeg) < 3 then (if (v 0 12) ≤ 0 then (some (0, v)) else (gd (gi a1 30) (lj (fun (v7 : MS) => gd (gi a1 30) (lj (fun (v10 : MS) (t11 : Int32) (t12 : Int32) => ob (f_st_grows v10 t11 t12) (fun r14 u15 => some (0, u15))) (fun j70_12 => if (v7 1 a1.toNatClampNeg) < 3 then (j70_12 v7 a1 1) else (j70_12 v7 a1 2)))) (fun j53_7 => if 0 < (v 1 a1.toNatClampNeg) then (j53_7 v) else (if (v 0 12) < 3 then (some (0, v)) else (j53_7 v)))))) else (ob (f_st_loses v a1 1) (fun r20 u21 => some (0, u21))))))
set_option maxHeartbeats 4000000 in
theorem w_st_mossDay (l : Launch) (G : va_G) (ai : Nat → ClassId) {s0 : State} {b0 : Addr} (h0 : mo_S0 s0 b0) {sa : Nat → Nat} {tl : va_W} (v : MS) (a1 : Int32) (r0 : Int32) (u0 : MS) (hF : f_st_mossDay v a1 = some (r0, u0)) : gz_Mv l G ai s0 (fun v => (st_W ai sa v tl)) yX1_mossDay cX1_mossDay 2 ({ frames := 2, cells := 0, slots := 0, locals := 44 } : Room) [.ref (sa 0), .int a1] (st_W ai sa v tl) (fun (u : MS) => u = u0) 0 0 := by
  refine gz_body (Qc := fun A => va_Qv (fun (u : MS) => u = u0) (gw_E G ai (fun v => (st_W ai sa v tl)) A) A) (fr := fun A => A) (by decide) (Nat.le_of_ble_eq_true rfl) ?_
  intro p e s m args below meth c A ls hC hZ hr hI hl hnm
  have hx := hC.1
  have hb := hC.2.1
  have hl : lv_has ls 2 [(0, .ref (sa 0)), (1, .int a1)] := hl
  show W p l e _ s m args below meth c s.heap [] 0 0 (MQ below (va_Qv (fun (u : MS) => u = u0) (gw_E G ai (fun v => (st_W ai sa v tl)) A) A) args s 0 0 A) (F0 m 0 ls [])
  rw [f_st_mossDay] at hF
  refine lv_aload_n hx hb dX1_mossDay_0 rfl (lv_at hl 0 rfl) ?_
  refine st_X1_g_st_moss hC h0 hZ hI dX1_mossDay_1 ?_
  refine lv_iload_n hx hb dX1_mossDay_4 rfl (lv_at hl 1 rfl) ?_
  obtain ⟨hg1, hF⟩ := gd_some hF
  refine st_l_moss hC hI hg1 dX1_mossDay_5 ?_
  refine lv_if_ne (tgt := 10) hx hb dX1_mossDay_6 (by decide) (fun c2 => ?_) (fun c2 => ?_)
  · have hF := if_f hF c2
    refine lv_aload_n hx hb dX1_mossDay_10 rfl (lv_at hl 0 rfl) ?_
    refine st_X1_g_st_leaves hC h0 hZ hI dX1_mossDay_11 ?_
    refine lv_iload_n hx hb dX1_mossDay_14 rfl (lv_at hl 1 rfl) ?_
    obtain ⟨hg3, hF⟩ := gd_some hF
    refine st_l_leaves hC hI hg3 dX1_mossDay_15 ?_
    refine lv_iconst (v := 3) hx hb dX1_mossDay_16 (by decide) ?_
    refine lv_icmp_lt (tgt := 29) hx hb dX1_mossDay_17 (by decide) (fun c4 => ?_) (fun c4 => ?_)
    · have hF := if_t hF c4
      refine lv_aload_n hx hb dX1_mossDay_29 rfl (lv_at hl 0 rfl) ?_
      refine st_X1_g_st_rain hC h0 hZ hI dX1_mossDay_30 ?_
      refine lv_if_le (tgt := 73) hx hb dX1_mossDay_33 (by decide) (fun c5 => ?_) (fun c5 => ?_)
      · have hF := if_t hF c5
        cases hF
        exact W.vret hx hb hr (fun t ht hW => ⟨⟨_, rfl, rfl, by rw [ht]; exact hI.1, va_K.moved hW.alike hC.2.2.2.2.2.2.1, hI.2.1⟩, hI.2.2.F ht⟩) hI.2.2.2.2 dX1_mossDay_73 hC.2.2.2.2.2.1
      · have hF := if_f hF c5
        refine lv_aload_n hx hb dX1_mossDay_36 rfl (lv_at hl 0 rfl) ?_
        refine st_X1_g_st_shade hC h0 hZ hI dX1_mossDay_37 ?_
        refine lv_iload_n hx hb dX1_mossDay_40 rfl (lv_at hl 1 rfl) ?_
        obtain ⟨hg6, hF⟩ := gd_some hF
        refine st_l_shade hC hI hg6 dX1_mossDay_41 ?_
        obtain ⟨j53_7, hj53_7, hF⟩ := lj_some hF
        have J53 : ∀ (v7 : MS) (H : Heap) (locs : List Loc) (ls : Array Slot), j53_7 v7 = some (r0, u0) → mo_I G A s.heap (st_W ai sa v7 tl) H locs → lv_has ls 2 [(0, .ref (sa 0)), (1, .int a1)] → W p l e ({ frames := 2, cells := 0, slots := 0, locals := 44 } : Room) s m args below meth c H locs 0 0 (MQ below (va_Qv (fun (u : MS) => u = u0) (gw_E G ai (fun v => (st_W ai sa v tl)) A) A) args s 0 0 A) (F0 m 53 ls []) := by
          intro v7 H locs ls hF hI hl
          rw [hj53_7] at hF
          refine lv_aload_n hx hb dX1_mossDay_53 rfl (lv_at hl 0 rfl) ?_
          refine lv_iload_n hx hb dX1_mossDay_54 rfl (lv_at hl 1 rfl) ?_
          refine lv_aload_n hx hb dX1_mossDay_55 rfl (lv_at hl 0 rfl) ?_
          refine st_X1_g_st_shade hC h0 hZ hI dX1_mossDay_56 ?_
          refine lv_iload_n hx hb dX1_mossDay_59 rfl (lv_at hl 1 rfl) ?_
          obtain ⟨hg9, hF⟩ := gd_some hF
          refine st_l_shade hC hI hg9 dX1_mossDay_60 ?_
          refine lv_iconst (v := 3) hx hb dX1_mossDay_61 (by decide) ?_
          obtain ⟨j70_12, hj70_12, hF⟩ := lj_some hF
          have J70 : ∀ (v10 : MS) (t11 : Int32) (t12 : Int32) (H : Heap) (locs : List Loc) (ls : Array Slot), j70_12 v10 t11 t12 = some (r0, u0) → mo_I G A s.heap (st_W ai sa v10 tl) H locs → lv_has ls 2 [] → W p l e ({ frames := 2, cells := 0, slots := 0, locals := 44 } : Room) s m args below meth c H locs 0 0 (MQ below (va_Qv (fun (u : MS) => u = u0) (gw_E G ai (fun v => (st_W ai sa v tl)) A) A) args s 0 0 A) (F0 m 70 ls [.int t12, .int t11, .ref (sa 0)]) := by
            intro v10 t11 t12 H locs ls hF hI hl
            rw [hj70_12] at hF
            obtain ⟨r14, u15, hz16, hF⟩ := ob_some hF
            refine k_X1_st_grows hC h0 hZ hI hz16 (Nat.le_of_ble_eq_true rfl) (Nat.le_of_ble_eq_true rfl) hl.1 (Nat.le_of_ble_eq_true rfl) dX1_mossDay_70 (fun H locs hI => ?_)
            cases hF
            exact W.vret hx hb hr (fun t ht hW => ⟨⟨_, rfl, rfl, by rw [ht]; exact hI.1, va_K.moved hW.alike hC.2.2.2.2.2.2.1, hI.2.1⟩, hI.2.2.F ht⟩) hI.2.2.2.2 dX1_mossDay_73 hC.2.2.2.2.2.1
          refine lv_icmp_lt (tgt := 69) hx hb dX1_mossDay_62 (by decide) (fun c17 => ?_) (fun c17 => ?_)
          · have hF := if_t hF c17
            refine lv_iconst (v := 1) hx hb dX1_mossDay_69 (by decide) ?_
            exact J70 _ _ _ _ _ _ hF hI (lv_sub hl [] rfl)
          · have hF := if_f hF c17
            refine lv_iconst (v := 2) hx hb dX1_mossDay_65 (by decide) ?_
            refine lv_goto (tgt := 70) hx hb dX1_mossDay_66 (by decide) ?_
            exact J70 _ _ _ _ _ _ hF hI (lv_sub hl [] rfl)
        refine lv_if_gt (tgt := 53) hx hb dX1_mossDay_42 (by decide) (fun c18 => ?_) (fun c18 => ?_)
        · have hF := if_t hF c18
          exact J53 _ _ _ _ hF hI (lv_sub hl [0, 1] rfl)
        · have hF := if_f hF c18
          refine lv_aload_n hx hb dX1_mossDay_45 rfl (lv_at hl 0 rfl) ?_
          refine st_X1_g_st_rain hC h0 hZ hI dX1_mossDay_46 ?_
          refine lv_iconst (v := 3) hx hb dX1_mossDay_49 (by decide) ?_
          refine lv_icmp_lt (tgt := 73) hx hb dX1_mossDay_50 (by decide) (fun c19 => ?_) (fun c19 => ?_)
          · have hF := if_t hF c19
            cases hF
            exact W.vret hx hb hr (fun t ht hW => ⟨⟨_, rfl, rfl, by rw [ht]; exact hI.1, va_K.moved hW.alike hC.2.2.2.2.2.2.1, hI.2.1⟩, hI.2.2.F ht⟩) hI.2.2.2.2 dX1_mossDay_73 hC.2.2.2.2.2.1
          · have hF := if_f hF c19
            exact J53 _ _ _ _ hF hI (lv_sub hl [0, 1] rfl)
    · have hF := if_f hF c4
      refine lv_aload_n hx hb dX1_mossDay_20 rfl (lv_at hl 0 rfl) ?_
      refine lv_iload_n hx hb dX1_mossDay_21 rfl (lv_at hl 1 rfl) ?_
      refine lv_iconst (v := 1) hx hb dX1_mossDay_22 (by decide) ?_
      obtain ⟨r20, u21, hz22, hF⟩ := ob_some hF
      refine k_X1_st_loses hC h0 hZ hI hz22 (Nat.le_of_ble_eq_true rfl) (Nat.le_of_ble_eq_true rfl) hl.1 (Nat.le_of_ble_eq_true rfl) dX1_mossDay_23 (fun H locs hI => ?_)
      refine lv_goto (tgt := 73) hx hb dX1_mossDay_26 (by decide) ?_
      cases hF
      exact W.vret hx hb hr (fun t ht hW => ⟨⟨_, rfl, rfl, by rw [ht]; exact hI.1, va_K.moved hW.alike hC.2.2.2.2.2.2.1, hI.2.1⟩, hI.2.2.F ht⟩) hI.2.2.2.2 dX1_mossDay_73 hC.2.2.2.2.2.1
  · have hF := if_t hF c2
    cases hF
    exact W.vret hx hb hr (fun t ht hW => ⟨⟨_, rfl, rfl, by rw [ht]; exact hI.1, va_K.moved hW.alike hC.2.2.2.2.2.2.1, hI.2.1⟩, hI.2.2.F ht⟩) hI.2.2.2.2 dX1_mossDay_9 hC.2.2.2.2.2.1
theorem k_X1_st_mossDay {p : Program} {l : Launch} {e : Env} {R : Room} {s s0 : State} {b0 : Addr} {m : MethodId} {args : Array Value} {below : List Frame} {meth : Method} {c : Code} {H : Heap} {locs : List Loc} {cells slots : Nat} {Q : State → Prop} {pc : Nat} {ls : Array Slot} {rest : List Value} {G : va_G} {ai : Nat → ClassId} {A : Nat → Prop} {cc : ByteArray} {nL f L kc ks : Nat} {sa : Nat → Nat} {tl : va_W} {v : MS} {a1 : Int32}  {r1 : Int32} {u1 : MS} (hC : mo_C p R s m args meth c G ai A RX1 cc nL f L kc ks) (h0 : mo_S0 s0 b0) (hZ : mo_Z s0 A s) (hI : mo_I G A s.heap (st_W ai sa v tl) H locs) (hz : f_st_mossDay v a1 = some (r1, u1)) (hf : 2 + 1 ≤ f) (hL : 8 + (2 + 11) + 44 ≤ L) (hsz : ls.size = nL) (hW : (rest.map fun v => v.category).sum ≤ 8) (hdg : decode cc pc = .ok (.invokevirtual 170, 3)) (kk : ∀ (H1 : Heap) (locs1 : List Loc), mo_I G A s.heap (st_W ai sa u1 tl) H1 locs1 → W p l e R s m args below meth c H1 locs1 cells slots Q (F0 m (pc + 3) ls (rest))) (hc0 : cells + 0 ≤ kc := by first | exact Nat.zero_le _ | exact Nat.le_of_ble_eq_true rfl | assumption | omega) (hs0 : slots + 0 ≤ ks := by first | exact Nat.zero_le _ | exact Nat.le_of_ble_eq_true rfl | assumption | omega) : W p l e R s m args below meth c H locs cells slots Q (F0 m pc ls (.int a1 :: .ref (sa 0) :: rest)) :=
  gz_usev0 hC.2.2.2.2.2.2.2.1 hI (va_runV (As := [.int a1]) (rest := rest) ⟨hC.1, hC.2.1, hC.2.2.1, hC.2.2.2.1, hC.2.2.2.2.1⟩ (w_st_mossDay l G ai h0 v a1 r1 u1 hz H.size) (cwV 1 hC.2.2.2.2.1 (lw_V q1066 q1067 q1068 q116 q1069) rfl rfl rfl (by decide +kernel) ⟨Nat.le_trans hf hC.2.2.2.2.2.2.2.2.1, Nat.le_trans hL hC.2.2.2.2.2.2.2.2.2.1⟩) ⟨gz_blind, (va_recv hC.2.2.2.2.2.2.1 hI.1 (ci := 2) (q0 := 0) rfl rfl), gz_pre0 hC hZ hI⟩ rfl rfl hsz rfl (lv_room hW) hdg ⟨Nat.le_trans hc0 hC.2.2.2.2.2.2.2.2.2.2.1, Nat.le_trans hs0 hC.2.2.2.2.2.2.2.2.2.2.2⟩) (fun u H1 locs1 hp hI1 => by cases hp; exact kk H1 locs1 hI1)
def f_ga_becomes (v : MS) (k : Int32) (a1 : Int32) : Option ((Int32 × MS)) := gd (gi k 4) (lt (rup v (6 + k.toNatClampNeg) (upd (v (6 + k.toNatClampNeg)) 0 a1)) (fun v1 => lt (rup v1 (6 + k.toNatClampNeg) (upd (v1 (6 + k.toNatClampNeg)) 1 6)) (fun v2 => lt (rup v2 (6 + k.toNatClampNeg) (upd (v2 (6 + k.toNatClampNeg)) 2 12)) (fun v3 => lt (rup v3 (6 + k.toNatClampNeg) (upd (v3 (6 + k.toNatClampNeg)) 3 0)) (fun v4 => lt (rup v4 (6 + k.toNatClampNeg) (upd (v4 (6 + k.toNatClampNeg)) 4 0)) (fun v5 => some (0, v5)))))))
set_option maxHeartbeats 4000000 in
theorem w_ga_becomes (l : Launch) (G : va_G) (ai : Nat → ClassId) {s0 : State} {b0 : Addr} (h0 : mo_S0 s0 b0) {sa : Nat → Nat} {tl : va_W} (v : MS) (k : Int32) (a1 : Int32) (r0 : Int32) (u0 : MS) (hF : f_ga_becomes v k a1 = some (r0, u0)) : gz_Mv l G ai s0 (fun v => (st_W ai sa v tl)) yX2_becomes cX2_becomes 2 ({ frames := 0, cells := 0, slots := 0, locals := 0 } : Room) [.ref (sa (10 + k.toNatClampNeg)), .int a1] (st_W ai sa v tl) (fun (u : MS) => u = u0) 0 0 := by
  refine gz_body (Qc := fun A => va_Qv (fun (u : MS) => u = u0) (gw_E G ai (fun v => (st_W ai sa v tl)) A) A) (fr := fun A => A) (by decide) (Nat.le_of_ble_eq_true rfl) ?_
  intro p e s m args below meth c A ls hC hZ hr hI hl hnm
  have hx := hC.1
  have hb := hC.2.1
  have hl : lv_has ls 2 [(0, .ref (sa (10 + k.toNatClampNeg))), (1, .int a1)] := hl
  show W p l e _ s m args below meth c s.heap [] 0 0 (MQ below (va_Qv (fun (u : MS) => u = u0) (gw_E G ai (fun v => (st_W ai sa v tl)) A) A) args s 0 0 A) (F0 m 0 ls [])
  rw [f_ga_becomes] at hF
  obtain ⟨hk0, hF⟩ := gd_some hF
  refine lv_aload_n hx hb dX2_becomes_0 rfl (lv_at hl 0 rfl) ?_
  refine lv_iload_n hx hb dX2_becomes_1 rfl (lv_at hl 1 rfl) ?_
  obtain ⟨v1, hv1, hF⟩ := lt_some hF
  refine st_X2_p_gard_square hC h0 hZ hI hk0 hv1 dX2_becomes_2 (fun H locs hI => ?_)
  refine lv_aload_n hx hb dX2_becomes_5 rfl (lv_at hl 0 rfl) ?_
  refine lv_bipush (v := 6) hx hb dX2_becomes_6 (by decide) ?_
  obtain ⟨v2, hv2, hF⟩ := lt_some hF
  refine st_X2_p_gard_hours hC h0 hZ hI hk0 hv2 dX2_becomes_8 (fun H locs hI => ?_)
  refine lv_aload_n hx hb dX2_becomes_11 rfl (lv_at hl 0 rfl) ?_
  refine lv_bipush (v := 12) hx hb dX2_becomes_12 (by decide) ?_
  obtain ⟨v3, hv3, hF⟩ := lt_some hF
  refine st_X2_p_gard_bamboo hC h0 hZ hI hk0 hv3 dX2_becomes_14 (fun H locs hI => ?_)
  refine lv_aload_n hx hb dX2_becomes_17 rfl (lv_at hl 0 rfl) ?_
  refine lv_iconst (v := 0) hx hb dX2_becomes_18 (by decide) ?_
  obtain ⟨v4, hv4, hF⟩ := lt_some hF
  refine st_X2_p_gard_swept hC h0 hZ hI hk0 hv4 dX2_becomes_19 (fun H locs hI => ?_)
  refine lv_aload_n hx hb dX2_becomes_22 rfl (lv_at hl 0 rfl) ?_
  refine lv_iconst (v := 0) hx hb dX2_becomes_23 (by decide) ?_
  obtain ⟨v5, hv5, hF⟩ := lt_some hF
  refine st_X2_p_gard_steps hC h0 hZ hI hk0 hv5 dX2_becomes_24 (fun H locs hI => ?_)
  cases hF
  exact W.vret hx hb hr (fun t ht hW => ⟨⟨_, rfl, rfl, by rw [ht]; exact hI.1, va_K.moved hW.alike hC.2.2.2.2.2.2.1, hI.2.1⟩, hI.2.2.F ht⟩) hI.2.2.2.2 dX2_becomes_27 hC.2.2.2.2.2.1
theorem k_X0_ga_becomes {p : Program} {l : Launch} {e : Env} {R : Room} {s s0 : State} {b0 : Addr} {m : MethodId} {args : Array Value} {below : List Frame} {meth : Method} {c : Code} {H : Heap} {locs : List Loc} {cells slots : Nat} {Q : State → Prop} {pc : Nat} {ls : Array Slot} {rest : List Value} {G : va_G} {ai : Nat → ClassId} {A : Nat → Prop} {cc : ByteArray} {nL f L kc ks : Nat} {sa : Nat → Nat} {tl : va_W} {v : MS} {k : Int32} {a1 : Int32}  {r1 : Int32} {u1 : MS} (hC : mo_C p R s m args meth c G ai A RX0 cc nL f L kc ks) (h0 : mo_S0 s0 b0) (hZ : mo_Z s0 A s) (hI : mo_I G A s.heap (st_W ai sa v tl) H locs) (hjk : gi k 4 = true) (hz : f_ga_becomes v k a1 = some (r1, u1)) (hf : 0 + 1 ≤ f) (hL : 8 + (2 + 11) + 0 ≤ L) (hsz : ls.size = nL) (hW : (rest.map fun v => v.category).sum ≤ 8) (hdg : decode cc pc = .ok (.invokevirtual 248, 3)) (kk : ∀ (H1 : Heap) (locs1 : List Loc), mo_I G A s.heap (st_W ai sa u1 tl) H1 locs1 → W p l e R s m args below meth c H1 locs1 cells slots Q (F0 m (pc + 3) ls (rest))) (hc0 : cells + 0 ≤ kc := by first | exact Nat.zero_le _ | exact Nat.le_of_ble_eq_true rfl | assumption | omega) (hs0 : slots + 0 ≤ ks := by first | exact Nat.zero_le _ | exact Nat.le_of_ble_eq_true rfl | assumption | omega) : W p l e R s m args below meth c H locs cells slots Q (F0 m pc ls (.int a1 :: .ref (sa (10 + k.toNatClampNeg)) :: rest)) :=
  gz_usev0 hC.2.2.2.2.2.2.2.1 hI (va_runV (As := [.int a1]) (rest := rest) ⟨hC.1, hC.2.1, hC.2.2.1, hC.2.2.2.1, hC.2.2.2.2.1⟩ (w_ga_becomes l G ai h0 v k a1 r1 u1 hz H.size) (cwV 1 hC.2.2.2.2.1 (lw_V q958 q959 q960 q122 q961) rfl rfl rfl (by decide +kernel) ⟨Nat.le_trans hf hC.2.2.2.2.2.2.2.2.1, Nat.le_trans hL hC.2.2.2.2.2.2.2.2.2.1⟩) ⟨gz_blind, (st_rcg hC hI hjk), gz_pre0 hC hZ hI⟩ rfl rfl hsz rfl (lv_room hW) hdg ⟨Nat.le_trans hc0 hC.2.2.2.2.2.2.2.2.2.2.1, Nat.le_trans hs0 hC.2.2.2.2.2.2.2.2.2.2.2⟩) (fun u H1 locs1 hp hI1 => by cases hp; exact kk H1 locs1 hI1)
def f_mol_becomes (v : MS) (k : Int32) (a1 : Int32) : Option ((Int32 × MS)) := gd (gi k 3) (lt (rup v (10 + k.toNatClampNeg) (upd (v (10 + k.toNatClampNeg)) 0 a1)) (fun v1 => lt (rup v1 (10 + k.toNatClampNeg) (upd (v1 (10 + k.toNatClampNeg)) 1 0)) (fun v2 => lt (rup v2 (10 + k.toNatClampNeg) (upd (v2 (10 + k.toNatClampNeg)) 2 0)) (fun v3 => some (0, v3)))))
set_option maxHeartbeats 4000000 in
theorem w_mol_becomes (l : Launch) (G : va_G) (ai : Nat → ClassId) {s0 : State} {b0 : Addr} (h0 : mo_S0 s0 b0) {sa : Nat → Nat} {tl : va_W} (v : MS) (k : Int32) (a1 : Int32) (r0 : Int32) (u0 : MS) (hF : f_mol_becomes v k a1 = some (r0, u0)) : gz_Mv l G ai s0 (fun v => (st_W ai sa v tl)) yX3_becomes cX3_becomes 2 ({ frames := 0, cells := 0, slots := 0, locals := 0 } : Room) [.ref (sa (14 + k.toNatClampNeg)), .int a1] (st_W ai sa v tl) (fun (u : MS) => u = u0) 0 0 := by
  refine gz_body (Qc := fun A => va_Qv (fun (u : MS) => u = u0) (gw_E G ai (fun v => (st_W ai sa v tl)) A) A) (fr := fun A => A) (by decide) (Nat.le_of_ble_eq_true rfl) ?_
  intro p e s m args below meth c A ls hC hZ hr hI hl hnm
  have hx := hC.1
  have hb := hC.2.1
  have hl : lv_has ls 2 [(0, .ref (sa (14 + k.toNatClampNeg))), (1, .int a1)] := hl
  show W p l e _ s m args below meth c s.heap [] 0 0 (MQ below (va_Qv (fun (u : MS) => u = u0) (gw_E G ai (fun v => (st_W ai sa v tl)) A) A) args s 0 0 A) (F0 m 0 ls [])
  rw [f_mol_becomes] at hF
  obtain ⟨hk0, hF⟩ := gd_some hF
  refine lv_aload_n hx hb dX3_becomes_0 rfl (lv_at hl 0 rfl) ?_
  refine lv_iload_n hx hb dX3_becomes_1 rfl (lv_at hl 1 rfl) ?_
  obtain ⟨v1, hv1, hF⟩ := lt_some hF
  refine st_X3_p_mole_square hC h0 hZ hI hk0 hv1 dX3_becomes_2 (fun H locs hI => ?_)
  refine lv_aload_n hx hb dX3_becomes_5 rfl (lv_at hl 0 rfl) ?_
  refine lv_iconst (v := 0) hx hb dX3_becomes_6 (by decide) ?_
  obtain ⟨v2, hv2, hF⟩ := lt_some hF
  refine st_X3_p_mole_isCaught hC h0 hZ hI hk0 (by decide) hv2 dX3_becomes_7 (fun H locs hI => ?_)
  refine lv_aload_n hx hb dX3_becomes_10 rfl (lv_at hl 0 rfl) ?_
  refine lv_iconst (v := 0) hx hb dX3_becomes_11 (by decide) ?_
  obtain ⟨v3, hv3, hF⟩ := lt_some hF
  refine st_X3_p_mole_took hC h0 hZ hI hk0 hv3 dX3_becomes_12 (fun H locs hI => ?_)
  cases hF
  exact W.vret hx hb hr (fun t ht hW => ⟨⟨_, rfl, rfl, by rw [ht]; exact hI.1, va_K.moved hW.alike hC.2.2.2.2.2.2.1, hI.2.1⟩, hI.2.2.F ht⟩) hI.2.2.2.2 dX3_becomes_15 hC.2.2.2.2.2.1
theorem k_X0_mol_becomes {p : Program} {l : Launch} {e : Env} {R : Room} {s s0 : State} {b0 : Addr} {m : MethodId} {args : Array Value} {below : List Frame} {meth : Method} {c : Code} {H : Heap} {locs : List Loc} {cells slots : Nat} {Q : State → Prop} {pc : Nat} {ls : Array Slot} {rest : List Value} {G : va_G} {ai : Nat → ClassId} {A : Nat → Prop} {cc : ByteArray} {nL f L kc ks : Nat} {sa : Nat → Nat} {tl : va_W} {v : MS} {k : Int32} {a1 : Int32}  {r1 : Int32} {u1 : MS} (hC : mo_C p R s m args meth c G ai A RX0 cc nL f L kc ks) (h0 : mo_S0 s0 b0) (hZ : mo_Z s0 A s) (hI : mo_I G A s.heap (st_W ai sa v tl) H locs) (hjk : gi k 3 = true) (hz : f_mol_becomes v k a1 = some (r1, u1)) (hf : 0 + 1 ≤ f) (hL : 8 + (2 + 11) + 0 ≤ L) (hsz : ls.size = nL) (hW : (rest.map fun v => v.category).sum ≤ 8) (hdg : decode cc pc = .ok (.invokevirtual 311, 3)) (kk : ∀ (H1 : Heap) (locs1 : List Loc), mo_I G A s.heap (st_W ai sa u1 tl) H1 locs1 → W p l e R s m args below meth c H1 locs1 cells slots Q (F0 m (pc + 3) ls (rest))) (hc0 : cells + 0 ≤ kc := by first | exact Nat.zero_le _ | exact Nat.le_of_ble_eq_true rfl | assumption | omega) (hs0 : slots + 0 ≤ ks := by first | exact Nat.zero_le _ | exact Nat.le_of_ble_eq_true rfl | assumption | omega) : W p l e R s m args below meth c H locs cells slots Q (F0 m pc ls (.int a1 :: .ref (sa (14 + k.toNatClampNeg)) :: rest)) :=
  gz_usev0 hC.2.2.2.2.2.2.2.1 hI (va_runV (As := [.int a1]) (rest := rest) ⟨hC.1, hC.2.1, hC.2.2.1, hC.2.2.2.1, hC.2.2.2.2.1⟩ (w_mol_becomes l G ai h0 v k a1 r1 u1 hz H.size) (cwV 1 hC.2.2.2.2.1 (lw_V q1050 q1051 q1052 q123 q1053) rfl rfl rfl (by decide +kernel) ⟨Nat.le_trans hf hC.2.2.2.2.2.2.2.2.1, Nat.le_trans hL hC.2.2.2.2.2.2.2.2.2.1⟩) ⟨gz_blind, (st_rcm hC hI hjk), gz_pre0 hC hZ hI⟩ rfl rfl hsz rfl (lv_room hW) hdg ⟨Nat.le_trans hc0 hC.2.2.2.2.2.2.2.2.2.2.1, Nat.le_trans hs0 hC.2.2.2.2.2.2.2.2.2.2.2⟩) (fun u H1 locs1 hp hI1 => by cases hp; exact kk H1 locs1 hI1)
def f_mol_isOn (v : MS) (k : Int32) (a1 : Int32) : Option Int32 := gd (gi k 3) (if (v (10 + k.toNatClampNeg) 1) = 0 then (if (v (10 + k.toNatClampNeg) 0) = a1 then (some 1) else (some 0)) else (some 0))
set_option maxHeartbeats 4000000 in
theorem w_mol_isOn (l : Launch) (G : va_G) (ai : Nat → ClassId) {s0 : State} {b0 : Addr} (h0 : mo_S0 s0 b0) {sa : Nat → Nat} {tl : va_W} (v : MS) (k : Int32) (a1 : Int32) (r0 : Int32) (hF : f_mol_isOn v k a1 = some r0) : rd_Met l G ai s0 yX3_isOn cX3_isOn 2 (some .boolean) ({ frames := 0, cells := 0, slots := 0, locals := 0 } : Room) [.ref (sa (14 + k.toNatClampNeg)), .int a1] (st_W ai sa v tl) (.int r0) := by
  refine gz_body (Qc := fun _ => rd_Q (.int r0)) (fr := fun _ _ => False) (by decide) (Nat.le_of_ble_eq_true rfl) ?_
  intro p e s m args below meth c A ls hC hZ hr hI hl hnm
  have hx := hC.1
  have hb := hC.2.1
  have hl : lv_has ls 2 [(0, .ref (sa (14 + k.toNatClampNeg))), (1, .int a1)] := hl
  show W p l e _ s m args below meth c s.heap [] 0 0 (MQ below (rd_Q (.int r0)) args s 0 0 (fun _ => False)) (F0 m 0 ls [])
  rw [f_mol_isOn] at hF
  obtain ⟨hk0, hF⟩ := gd_some hF
  refine lv_aload_n hx hb dX3_isOn_0 rfl (lv_at hl 0 rfl) ?_
  refine st_X3_g_mole_isCaught hC h0 hZ hI hk0 dX3_isOn_1 ?_
  refine lv_if_ne (tgt := 19) hx hb dX3_isOn_4 (by decide) (fun c1 => ?_) (fun c1 => ?_)
  · have hF := if_f hF c1
    refine lv_iconst (v := 0) hx hb dX3_isOn_19 (by decide) ?_
    have hF := Option.some.inj hF
    subst hF
    exact rd_iret hC hr rfl dX3_isOn_20
  · have hF := if_t hF c1
    refine lv_aload_n hx hb dX3_isOn_7 rfl (lv_at hl 0 rfl) ?_
    refine st_X3_g_mole_square hC h0 hZ hI hk0 dX3_isOn_8 ?_
    refine lv_iload_n hx hb dX3_isOn_11 rfl (lv_at hl 1 rfl) ?_
    refine lv_icmp_ne (tgt := 19) hx hb dX3_isOn_12 (by decide) (fun c2 => ?_) (fun c2 => ?_)
    · have hF := if_f hF c2
      refine lv_iconst (v := 0) hx hb dX3_isOn_19 (by decide) ?_
      have hF := Option.some.inj hF
      subst hF
      exact rd_iret hC hr rfl dX3_isOn_20
    · have hF := if_t hF c2
      refine lv_iconst (v := 1) hx hb dX3_isOn_15 (by decide) ?_
      refine lv_goto (tgt := 20) hx hb dX3_isOn_16 (by decide) ?_
      have hF := Option.some.inj hF
      subst hF
      exact rd_iret hC hr rfl dX3_isOn_20
theorem k_X0_mol_isOn {p : Program} {l : Launch} {e : Env} {R : Room} {s s0 : State} {b0 : Addr} {m : MethodId} {args : Array Value} {below : List Frame} {meth : Method} {c : Code} {H : Heap} {locs : List Loc} {cells slots : Nat} {Q : State → Prop} {pc : Nat} {ls : Array Slot} {rest : List Value} {G : va_G} {ai : Nat → ClassId} {A : Nat → Prop} {cc : ByteArray} {nL f L kc ks : Nat} {sa : Nat → Nat} {tl : va_W} {v : MS} {k : Int32} {a1 : Int32}  {r1 : Int32} (hC : mo_C p R s m args meth c G ai A RX0 cc nL f L kc ks) (h0 : mo_S0 s0 b0) (hZ : mo_Z s0 A s) (hI : mo_I G A s.heap (st_W ai sa v tl) H locs) (hjk : gi k 3 = true) (hz : f_mol_isOn v k a1 = some r1) (hf : 0 + 1 ≤ f) (hL : 8 + (2 + 11) + 0 ≤ L) (hsz : ls.size = nL) (hW : (rest.map fun v => v.category).sum ≤ 8) (hdg : decode cc pc = .ok (.invokevirtual 586, 3)) (kk : W p l e R s m args below meth c H locs cells slots Q (F0 m (pc + 3) ls (.int r1 :: rest))) (hc0 : cells ≤ kc := by first | exact Nat.zero_le _ | exact Nat.le_of_ble_eq_true rfl | assumption | omega) (hs0 : slots ≤ ks := by first | exact Nat.zero_le _ | exact Nat.le_of_ble_eq_true rfl | assumption | omega) : W p l e R s m args below meth c H locs cells slots Q (F0 m pc ls (.int a1 :: .ref (sa (14 + k.toNatClampNeg)) :: rest)) :=
  rd_use (va_runV (As := [.int a1]) (rest := rest) ⟨hC.1, hC.2.1, hC.2.2.1, hC.2.2.2.1, hC.2.2.2.2.1⟩ (w_mol_isOn l G ai h0 v k a1 r1 hz H.size) (cwV 1 hC.2.2.2.2.1 (lw_V q913 q914 q915 q123 q916) rfl rfl rfl (by decide +kernel) ⟨Nat.le_trans hf hC.2.2.2.2.2.2.2.2.1, Nat.le_trans hL hC.2.2.2.2.2.2.2.2.2.1⟩) ⟨gz_blind, (st_rcm hC hI hjk), gz_pre0 hC hZ hI⟩ rfl rfl hsz rfl (lv_room hW) hdg ⟨Nat.le_trans hc0 hC.2.2.2.2.2.2.2.2.2.2.1, Nat.le_trans hs0 hC.2.2.2.2.2.2.2.2.2.2.2⟩) kk

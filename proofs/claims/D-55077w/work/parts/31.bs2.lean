/-! BitSet.or, cardinality: printed by tools/gen_bs.py -/
set_option maxRecDepth 100000
theorem b2_J0_g_bs_wordsInUse {p : Program} {l : Launch} {e : Env} {R : Room} {s s0 : State} {b0 : Addr} {m : MethodId} {args : Array Value} {below : List Frame} {meth : Method} {c : Code} {H : Heap} {locs : List Loc} {cells slots : Nat} {Q : State → Prop} {pc : Nat} {ls : Array Slot} {rest : List Value} {G : va_G} {ai : Nat → ClassId} {A : Nat → Prop} {cc : ByteArray} {nL f L kc ks : Nat} {b bw d dw : Nat} {tl : va_W} {us : Int32} {wd : Nat → Int64} {us2 : Int32} {wd2 : Nat → Int64} (hC : mo_C p R s m args meth c G ai A RJ0 cc nL f L kc ks) (h0 : mo_S0 s0 b0) (hZ : mo_Z s0 A s) (hI : mo_I G A s.heap (bs_C ai b bw us wd ++ (bs_C ai d dw us2 wd2 ++ tl)) H locs) (hdg : decode cc pc = .ok (.getfield 7, 3)) (kk : W p l e R s m args below meth c H locs cells slots Q (F0 m (pc + 3) ls (.int (us) :: rest))) : W p l e R s m args below meth c H locs cells slots Q (F0 m pc ls (.ref (b) :: rest)) :=
  va_get (D := G) (ci := 13) (C := RJ0) (T := TJ0) (N := 3) hC.1 hC.2.1 hC.2.2.2.2.1 in_J0 hC.2.2.2.1 hC.2.2.2.2.2.2.1 hI.1 0 rfl rfl 1 (by decide) (hC.2.2.2.2.1 _ q194) (fun _ h9 => h9) rfl hdg kk
theorem b2_J0_g_ob_wordsInUse {p : Program} {l : Launch} {e : Env} {R : Room} {s s0 : State} {b0 : Addr} {m : MethodId} {args : Array Value} {below : List Frame} {meth : Method} {c : Code} {H : Heap} {locs : List Loc} {cells slots : Nat} {Q : State → Prop} {pc : Nat} {ls : Array Slot} {rest : List Value} {G : va_G} {ai : Nat → ClassId} {A : Nat → Prop} {cc : ByteArray} {nL f L kc ks : Nat} {b bw d dw : Nat} {tl : va_W} {us : Int32} {wd : Nat → Int64} {us2 : Int32} {wd2 : Nat → Int64} (hC : mo_C p R s m args meth c G ai A RJ0 cc nL f L kc ks) (h0 : mo_S0 s0 b0) (hZ : mo_Z s0 A s) (hI : mo_I G A s.heap (bs_C ai b bw us wd ++ (bs_C ai d dw us2 wd2 ++ tl)) H locs) (hdg : decode cc pc = .ok (.getfield 7, 3)) (kk : W p l e R s m args below meth c H locs cells slots Q (F0 m (pc + 3) ls (.int (us2) :: rest))) : W p l e R s m args below meth c H locs cells slots Q (F0 m pc ls (.ref (d) :: rest)) :=
  va_get (D := G) (ci := 13) (C := RJ0) (T := TJ0) (N := 3) hC.1 hC.2.1 hC.2.2.2.2.1 in_J0 hC.2.2.2.1 hC.2.2.2.2.2.2.1 hI.1 2 rfl rfl 1 (by decide) (hC.2.2.2.2.1 _ q194) (fun _ h9 => h9) rfl hdg kk
theorem b2_J0_g_bs_words {p : Program} {l : Launch} {e : Env} {R : Room} {s s0 : State} {b0 : Addr} {m : MethodId} {args : Array Value} {below : List Frame} {meth : Method} {c : Code} {H : Heap} {locs : List Loc} {cells slots : Nat} {Q : State → Prop} {pc : Nat} {ls : Array Slot} {rest : List Value} {G : va_G} {ai : Nat → ClassId} {A : Nat → Prop} {cc : ByteArray} {nL f L kc ks : Nat} {b bw d dw : Nat} {tl : va_W} {us : Int32} {wd : Nat → Int64} {us2 : Int32} {wd2 : Nat → Int64} (hC : mo_C p R s m args meth c G ai A RJ0 cc nL f L kc ks) (h0 : mo_S0 s0 b0) (hZ : mo_Z s0 A s) (hI : mo_I G A s.heap (bs_C ai b bw us wd ++ (bs_C ai d dw us2 wd2 ++ tl)) H locs) (hdg : decode cc pc = .ok (.getfield 11, 3)) (kk : W p l e R s m args below meth c H locs cells slots Q (F0 m (pc + 3) ls (.ref (bw) :: rest))) : W p l e R s m args below meth c H locs cells slots Q (F0 m pc ls (.ref (b) :: rest)) :=
  va_get (D := G) (ci := 13) (C := RJ0) (T := TJ0) (N := 3) hC.1 hC.2.1 hC.2.2.2.2.1 in_J0 hC.2.2.2.1 hC.2.2.2.2.2.2.1 hI.1 0 rfl rfl 0 (by decide) (hC.2.2.2.2.1 _ q193) (fun _ h9 => h9) rfl hdg kk
theorem b2_l_bsw {own : String} {p : Program} {l : Launch} {e : Env} {R : Room} {s : State} {m : MethodId} {args : Array Value} {below : List Frame} {meth : Method} {c : Code} {H : Heap} {locs : List Loc} {cells slots : Nat} {Q : State → Prop} {pc : Nat} {ls : Array Slot} {rest : List Value} {G : va_G} {ai : Nat → ClassId} {A : Nat → Prop} {cc : ByteArray} {nL f L kc ks : Nat} {b bw d dw : Nat} {tl : va_W} {us : Int32} {wd : Nat → Int64} {us2 : Int32} {wd2 : Nat → Int64} {j : Int32} (hC : mo_C p R s m args meth c G ai A own cc nL f L kc ks) (hI : mo_I G A s.heap (bs_C ai b bw us wd ++ (bs_C ai d dw us2 wd2 ++ tl)) H locs) (hg : gi j 1 = true) (hdg : decode cc pc = .ok (.laload, 1)) (kk : W p l e R s m args below meth c H locs cells slots Q (F0 m (pc + 1) ls (.long (wd j.toNatClampNeg) :: rest))) : W p l e R s m args below meth c H locs cells slots Q (F0 m pc ls (.int j :: .ref (bw) :: rest)) :=
  va_lald hC.1 hC.2.1 hC.2.2.2.2.2.2.1 hI.1 1 1 rfl rfl (gi_in hg) hdg kk
theorem b2_J0_g_ob_words {p : Program} {l : Launch} {e : Env} {R : Room} {s s0 : State} {b0 : Addr} {m : MethodId} {args : Array Value} {below : List Frame} {meth : Method} {c : Code} {H : Heap} {locs : List Loc} {cells slots : Nat} {Q : State → Prop} {pc : Nat} {ls : Array Slot} {rest : List Value} {G : va_G} {ai : Nat → ClassId} {A : Nat → Prop} {cc : ByteArray} {nL f L kc ks : Nat} {b bw d dw : Nat} {tl : va_W} {us : Int32} {wd : Nat → Int64} {us2 : Int32} {wd2 : Nat → Int64} (hC : mo_C p R s m args meth c G ai A RJ0 cc nL f L kc ks) (h0 : mo_S0 s0 b0) (hZ : mo_Z s0 A s) (hI : mo_I G A s.heap (bs_C ai b bw us wd ++ (bs_C ai d dw us2 wd2 ++ tl)) H locs) (hdg : decode cc pc = .ok (.getfield 11, 3)) (kk : W p l e R s m args below meth c H locs cells slots Q (F0 m (pc + 3) ls (.ref (dw) :: rest))) : W p l e R s m args below meth c H locs cells slots Q (F0 m pc ls (.ref (d) :: rest)) :=
  va_get (D := G) (ci := 13) (C := RJ0) (T := TJ0) (N := 3) hC.1 hC.2.1 hC.2.2.2.2.1 in_J0 hC.2.2.2.1 hC.2.2.2.2.2.2.1 hI.1 2 rfl rfl 0 (by decide) (hC.2.2.2.2.1 _ q193) (fun _ h9 => h9) rfl hdg kk
theorem b2_l_obw {own : String} {p : Program} {l : Launch} {e : Env} {R : Room} {s : State} {m : MethodId} {args : Array Value} {below : List Frame} {meth : Method} {c : Code} {H : Heap} {locs : List Loc} {cells slots : Nat} {Q : State → Prop} {pc : Nat} {ls : Array Slot} {rest : List Value} {G : va_G} {ai : Nat → ClassId} {A : Nat → Prop} {cc : ByteArray} {nL f L kc ks : Nat} {b bw d dw : Nat} {tl : va_W} {us : Int32} {wd : Nat → Int64} {us2 : Int32} {wd2 : Nat → Int64} {j : Int32} (hC : mo_C p R s m args meth c G ai A own cc nL f L kc ks) (hI : mo_I G A s.heap (bs_C ai b bw us wd ++ (bs_C ai d dw us2 wd2 ++ tl)) H locs) (hg : gi j 1 = true) (hdg : decode cc pc = .ok (.laload, 1)) (kk : W p l e R s m args below meth c H locs cells slots Q (F0 m (pc + 1) ls (.long (wd2 j.toNatClampNeg) :: rest))) : W p l e R s m args below meth c H locs cells slots Q (F0 m pc ls (.int j :: .ref (dw) :: rest)) :=
  va_lald hC.1 hC.2.1 hC.2.2.2.2.2.2.1 hI.1 3 1 rfl rfl (gi_in hg) hdg kk
theorem b2_s_bsw {own : String} {p : Program} {l : Launch} {e : Env} {R : Room} {s : State} {m : MethodId} {args : Array Value} {below : List Frame} {meth : Method} {c : Code} {H : Heap} {locs : List Loc} {cells slots : Nat} {Q : State → Prop} {pc : Nat} {ls : Array Slot} {rest : List Value} {G : va_G} {ai : Nat → ClassId} {A : Nat → Prop} {cc : ByteArray} {nL f L kc ks : Nat} {b bw d dw : Nat} {tl : va_W} {us : Int32} {wd : Nat → Int64} {us2 : Int32} {wd2 : Nat → Int64} {j : Int32} {x : Int64} {z1 : Nat → Int64} (hC : mo_C p R s m args meth c G ai A own cc nL f L kc ks) (hI : mo_I G A s.heap (bs_C ai b bw us wd ++ (bs_C ai d dw us2 wd2 ++ tl)) H locs) (hg : gi j 1 = true) (hM : z1 = vp_updL wd j.toNatClampNeg x) (hdg : decode cc pc = .ok (.lastore, 1)) (kk : ∀ (H1 : Heap) (locs1 : List Loc), mo_I G A s.heap (bs_C ai b bw us z1 ++ (bs_C ai d dw us2 wd2 ++ tl)) H1 locs1 → W p l e R s m args below meth c H1 locs1 cells slots Q (F0 m (pc + 1) ls (rest))) : W p l e R s m args below meth c H locs cells slots Q (F0 m pc ls (.long x :: .int j :: .ref (bw) :: rest)) := by
  subst z1
  exact va_last hC.1 hC.2.1 hC.2.2.2.2.2.2.1 hI.1 hI.2.1 hI.2.2 1 1 rfl rfl (gi_in hg) hdg (fun H locs hP hD hS => kk H locs ⟨hP, hD, hS⟩)
theorem b2_J0_cp_obw_bsw {p : Program} {l : Launch} {e : Env} {R : Room} {s : State} {m : MethodId} {args : Array Value} {below : List Frame} {meth : Method} {c : Code} {H : Heap} {locs : List Loc} {cells slots : Nat} {Q : State → Prop} {pc : Nat} {ls : Array Slot} {rest : List Value} {G : va_G} {ai : Nat → ClassId} {A : Nat → Prop} {cc : ByteArray} {nL f L kc ks : Nat} {b bw d dw : Nat} {tl : va_W} {us : Int32} {wd : Nat → Int64} {us2 : Int32} {wd2 : Nat → Int64} {sp dp n : Int32} {z1 : Nat → Int64} (hC : mo_C p R s m args meth c G ai A RJ0 cc nL f L kc ks) (hI : mo_I G A s.heap (bs_C ai b bw us wd ++ (bs_C ai d dw us2 wd2 ++ tl)) H locs) (hg : gcp sp dp n 1 1 = true) (hM : z1 = (va_cpy wd2 wd sp.toNatClampNeg dp.toNatClampNeg n.toNatClampNeg)) (hf : 1 ≤ f) (hL : 26 ≤ L) (hsz : ls.size = nL) (hW : (rest.map fun v => v.category).sum ≤ 8) (hdg : decode cc pc = .ok (.invokestatic 199, 3)) (kk : ∀ (H1 : Heap) (locs1 : List Loc), mo_I G A s.heap (bs_C ai b bw us z1 ++ (bs_C ai d dw us2 wd2 ++ tl)) H1 locs1 → W p l e R s m args below meth c H1 locs1 cells slots Q (F0 m (pc + 3) ls (rest))) : W p l e R s m args below meth c H locs cells slots Q (F0 m pc ls (.int n :: .int dp :: .ref (bw) :: .int sp :: .ref (dw) :: rest)) := by
  subst z1
  obtain ⟨h1, h2, h3, h4, h5⟩ := gcp_s hg
  exact va_copyl hC.1 hC.2.1 (by rw [hsz]; exact hC.2.2.1) hC.2.2.2.1 (hC.2.2.2.2.1 _ q673) (hC.2.2.2.2.1 _ q646) (hC.2.2.2.2.1 _ q645) (hC.2.2.2.2.1 _ q146) hC.2.2.2.2.2.2.1 hI.1 hI.2.1 hI.2.2 3 1 1 1 rfl rfl rfl rfl rfl h1 h2 h3 h4 h5 (fun _ _ => rfl) (Nat.le_trans hf hC.2.2.2.2.2.2.2.2.1) (cp_room hW (Nat.le_trans hL hC.2.2.2.2.2.2.2.2.2.1)) hdg (fun H locs hP hD hS => kk H locs ⟨hP, hD, hS⟩)
theorem b2_J0_p_bs_wordsInUse {p : Program} {l : Launch} {e : Env} {R : Room} {s s0 : State} {b0 : Addr} {m : MethodId} {args : Array Value} {below : List Frame} {meth : Method} {c : Code} {H : Heap} {locs : List Loc} {cells slots : Nat} {Q : State → Prop} {pc : Nat} {ls : Array Slot} {rest : List Value} {G : va_G} {ai : Nat → ClassId} {A : Nat → Prop} {cc : ByteArray} {nL f L kc ks : Nat} {b bw d dw : Nat} {tl : va_W} {us : Int32} {wd : Nat → Int64} {us2 : Int32} {wd2 : Nat → Int64} {x : Int32} {z1 : Int32} (hC : mo_C p R s m args meth c G ai A RJ0 cc nL f L kc ks) (h0 : mo_S0 s0 b0) (hZ : mo_Z s0 A s) (hI : mo_I G A s.heap (bs_C ai b bw us wd ++ (bs_C ai d dw us2 wd2 ++ tl)) H locs) (hM : z1 = x) (hdg : decode cc pc = .ok (.putfield 7, 3)) (kk : ∀ (H1 : Heap) (locs1 : List Loc), mo_I G A s.heap (bs_C ai b bw z1 wd ++ (bs_C ai d dw us2 wd2 ++ tl)) H1 locs1 → W p l e R s m args below meth c H1 locs1 cells slots Q (F0 m (pc + 3) ls (rest))) : W p l e R s m args below meth c H locs cells slots Q (F0 m pc ls (.int x :: .ref (b) :: rest)) := by
  subst z1
  exact va_put (D := G) (ci := 13) (v := .int x) (ty := .int) (C := RJ0) (T := TJ0) (N := 3) hC.1 hC.2.1 hC.2.2.2.2.1 in_J0 tyJ0 tyJ0_ok nmJ0 hC.2.2.2.1 hC.2.2.2.2.2.2.1 hI.1 hI.2.1 hI.2.2 0 rfl rfl 1 (by decide) (hC.2.2.2.2.1 _ q194) (fun _ h9 => h9) rfl (by decide +kernel) rfl rfl (Nat.le_of_ble_eq_true rfl) hdg (fun H locs hP hD hS => kk H locs ⟨hP, hD, hS⟩)
theorem b2_ne {G : va_G} {ai : Nat → ClassId} {A : Nat → Prop} {H0 H : Heap} {locs : List Loc} {b bw d dw : Nat} {us us2 : Int32} {wd wd2 : Nat → Int64} {tl : va_W} (hI : mo_I G A H0 (bs_C ai b bw us wd ++ (bs_C ai d dw us2 wd2 ++ tl)) H locs) : b ≠ d := fun h => absurd (hI.2.1.1 0 2 _ _ rfl rfl h) (by decide)
def f_bs_or_L47 (a2 : Int32) (kont : Int32 → (Nat → Int64) → Int32 → (Nat → Int64) → Option (Int32 × Int32 × (Nat → Int64) × Int32 × (Nat → Int64))) : Nat → Int32 → (Nat → Int64) → Int32 → (Nat → Int64) → Int32 → Option (Int32 × Int32 × (Nat → Int64) × Int32 × (Nat → Int64))
  | 0, _, _, _, _, _ => none
  | n + 1, x_us, x_wd, x_us2, x_wd2, x3 => if a2 ≤ x3 then (kont x_us x_wd x_us2 x_wd2) else (gd (gi x3 1) (gd (gi x3 1) (gd (gi x3 1) (lt (vp_updL x_wd x3.toNatClampNeg ((x_wd x3.toNatClampNeg) ||| (x_wd2 x3.toNatClampNeg))) (fun wd11 => lt (x3 + 1) (fun x3_12 => f_bs_or_L47 a2 kont n x_us wd11 x_us2 x_wd2 x3_12))))))
def f_bs_or (us : Int32) (wd : Nat → Int64) (us2 : Int32) (wd2 : Nat → Int64) : Option ((Int32 × Int32 × (Nat → Int64) × Int32 × (Nat → Int64))) := lt ((p_mmin (us) (us2))) (fun x2_1 => lj (fun (us2 : Int32) (wd3 : Nat → Int64) (us24 : Int32) (wd25 : Nat → Int64) => f_bs_or_L47 x2_1 (fun us13 wd14 us215 wd216 => lj (fun (us17 : Int32) (wd18 : Nat → Int64) (us219 : Int32) (wd220 : Nat → Int64) => ov (f_bs_checkInvariants us17 wd18) (fun r22 => some (0, (us17, wd18, us219, wd220)))) (fun j100_20 => if (us215) ≤ x2_1 then (j100_20 us13 wd14 us215 wd216) else (gd (gcp x2_1 x2_1 ((us13) - x2_1) 1 1) (lt ((va_cpy wd216 wd14 x2_1.toNatClampNeg x2_1.toNatClampNeg ((us13) - x2_1).toNatClampNeg)) (fun wd26 => j100_20 us13 wd26 us215 wd216))))) 3 us2 wd3 us24 wd25 0) (fun j45_5 => if (us2) ≤ (us) then (j45_5 us wd us2 wd2) else (ob (f_bs_ensureCapacity us wd (us2)) (fun r28 u29 => lt ((us2)) (fun us31 => j45_5 us31 u29.2 us2 wd2)))))
set_option maxHeartbeats 4000000 in
theorem w_bs_or_L47 {p : Program} {l : Launch} {e : Env} {R : Room} {s s0 : State} {b0 : Addr} {m : MethodId} {args : Array Value} {below : List Frame} {meth : Method} {c : Code} {G : va_G} {ai : Nat → ClassId} {A : Nat → Prop} {b bw d dw : Nat} {tl : va_W} {r0 : Int32} {u0 : Int32 × (Nat → Int64) × Int32 × (Nat → Int64)} (hC : mo_C p R s m args meth c G ai A RJ0 cJ0_or 4 1 26 0 0) (h0 : mo_S0 s0 b0) (hZ : mo_Z s0 A s) (hr : meth.sig.returnType = none) (a2 : Int32) (kont : Int32 → (Nat → Int64) → Int32 → (Nat → Int64) → Option (Int32 × Int32 × (Nat → Int64) × Int32 × (Nat → Int64))) (K : ∀ (x_us : Int32) (x_wd : Nat → Int64) (x_us2 : Int32) (x_wd2 : Nat → Int64) (H : Heap) (locs : List Loc) (ls : Array Slot), kont x_us x_wd x_us2 x_wd2 = some (r0, u0) → mo_I G A s.heap (bs_C ai b bw x_us x_wd ++ (bs_C ai d dw x_us2 x_wd2 ++ tl)) H locs → lv_has ls 4 [(2, .int a2), (0, .ref b), (1, .ref d)] → W p l e R s m args below meth c H locs 0 0 (MQ below (va_Qv (fun (u : Int32 × (Nat → Int64) × Int32 × (Nat → Int64)) => u = u0) (gw_E G ai (fun (u : Int32 × (Nat → Int64) × Int32 × (Nat → Int64)) => (bs_C ai b bw u.1 u.2.1 ++ (bs_C ai d dw u.2.2.1 u.2.2.2 ++ tl))) A) A) args s 0 0 A) (F0 m 73 ls [])) :
    ∀ (n : Nat) (x_us : Int32) (x_wd : Nat → Int64) (x_us2 : Int32) (x_wd2 : Nat → Int64) (x3 : Int32) (H : Heap) (locs : List Loc) (ls : Array Slot), f_bs_or_L47 a2 kont n x_us x_wd x_us2 x_wd2 x3 = some (r0, u0) → mo_I G A s.heap (bs_C ai b bw x_us x_wd ++ (bs_C ai d dw x_us2 x_wd2 ++ tl)) H locs → lv_has ls 4 [(3, .int x3), (2, .int a2), (0, .ref b), (1, .ref d)] → W p l e R s m args below meth c H locs 0 0 (MQ below (va_Qv (fun (u : Int32 × (Nat → Int64) × Int32 × (Nat → Int64)) => u = u0) (gw_E G ai (fun (u : Int32 × (Nat → Int64) × Int32 × (Nat → Int64)) => (bs_C ai b bw u.1 u.2.1 ++ (bs_C ai d dw u.2.2.1 u.2.2.2 ++ tl))) A) A) args s 0 0 A) (F0 m 47 ls []) := by
  have hx := hC.1
  have hb := hC.2.1
  intro n
  induction n with
  | zero =>
    intro x_us x_wd x_us2 x_wd2 x3 H locs ls hF
    have h0 : (none : Option (Int32 × Int32 × (Nat → Int64) × Int32 × (Nat → Int64))) = some (r0, u0) := hF
    cases h0
  | succ n ih =>
    intro x_us x_wd x_us2 x_wd2 x3 H locs ls hF hI hl
    rw [f_bs_or_L47] at hF
    refine lv_iload_n hx hb dJ0_or_47 rfl (lv_at hl 0 rfl) ?_
    refine lv_iload_n hx hb dJ0_or_48 rfl (lv_at hl 1 rfl) ?_
    refine lv_icmp_ge (tgt := 73) hx hb dJ0_or_49 (by decide) (fun c7 => ?_) (fun c7 => ?_)
    · have hF := if_t hF c7
      exact K _ _ _ _ _ _ _ hF hI (lv_sub hl [1, 2, 3] rfl)
    · have hF := if_f hF c7
      refine lv_aload_n hx hb dJ0_or_52 rfl (lv_at hl 2 rfl) ?_
      refine b2_J0_g_bs_words hC h0 hZ hI dJ0_or_53 ?_
      refine lv_iload_n hx hb dJ0_or_56 rfl (lv_at hl 0 rfl) ?_
      refine lv_dup2_11 hx hb dJ0_or_57 rfl rfl ?_
      obtain ⟨hg8, hF⟩ := gd_some hF
      refine b2_l_bsw hC hI hg8 dJ0_or_58 ?_
      refine lv_aload_n hx hb dJ0_or_59 rfl (lv_at hl 3 rfl) ?_
      refine b2_J0_g_ob_words hC h0 hZ hI dJ0_or_60 ?_
      refine lv_iload_n hx hb dJ0_or_63 rfl (lv_at hl 0 rfl) ?_
      obtain ⟨hg9, hF⟩ := gd_some hF
      refine b2_l_obw hC hI hg9 dJ0_or_64 ?_
      refine lv_lor hx hb dJ0_or_65 ?_
      obtain ⟨hg10, hF⟩ := gd_some hF
      obtain ⟨wd11, hwd11, hF⟩ := lt_some hF
      refine b2_s_bsw hC hI hg10 hwd11 dJ0_or_66 (fun H locs hI => ?_)
      obtain ⟨x3_12, hx3_12, hF⟩ := lt_some hF
      refine mo_inc (k := 0) (lv' := [(3, .int x3_12), (2, .int a2), (0, .ref b), (1, .ref d)]) hx hb hx3_12 (by decide) dJ0_or_67 hl rfl (by decide) rfl (fun ls hl => ?_)
      refine lv_goto (tgt := 47) hx hb dJ0_or_70 (by decide) ?_
      exact ih _ _ _ _ _ _ _ _ hF hI (lv_sub hl [0, 1, 2, 3] rfl)
set_option maxHeartbeats 4000000 in
theorem w_bs_or (l : Launch) (G : va_G) (ai : Nat → ClassId) {s0 : State} {b0 : Addr} (h0 : mo_S0 s0 b0) {b bw d dw : Nat} {tl : va_W} (us : Int32) (wd : Nat → Int64) (us2 : Int32) (wd2 : Nat → Int64) (r0 : Int32) (u0 : Int32 × (Nat → Int64) × Int32 × (Nat → Int64)) (hF : f_bs_or us wd us2 wd2 = some (r0, u0)) : gz_Mv l G ai s0 (fun (u : Int32 × (Nat → Int64) × Int32 × (Nat → Int64)) => (bs_C ai b bw u.1 u.2.1 ++ (bs_C ai d dw u.2.2.1 u.2.2.2 ++ tl))) yJ0_or cJ0_or 4 ({ frames := 1, cells := 0, slots := 0, locals := 26 } : Room) [.ref b, .ref d] (bs_C ai b bw us wd ++ (bs_C ai d dw us2 wd2 ++ tl)) (fun (u : Int32 × (Nat → Int64) × Int32 × (Nat → Int64)) => u = u0) 0 0 := by
  refine gz_body (Qc := fun A => va_Qv (fun (u : Int32 × (Nat → Int64) × Int32 × (Nat → Int64)) => u = u0) (gw_E G ai (fun (u : Int32 × (Nat → Int64) × Int32 × (Nat → Int64)) => (bs_C ai b bw u.1 u.2.1 ++ (bs_C ai d dw u.2.2.1 u.2.2.2 ++ tl))) A) A) (fr := fun A => A) (by decide) (Nat.le_of_ble_eq_true rfl) ?_
  intro p e s m args below meth c A ls hC hZ hr hI hl hnm
  have hx := hC.1
  have hb := hC.2.1
  have hl : lv_has ls 4 [(0, .ref b), (1, .ref d)] := hl
  show W p l e _ s m args below meth c s.heap [] 0 0 (MQ below (va_Qv (fun (u : Int32 × (Nat → Int64) × Int32 × (Nat → Int64)) => u = u0) (gw_E G ai (fun (u : Int32 × (Nat → Int64) × Int32 × (Nat → Int64)) => (bs_C ai b bw u.1 u.2.1 ++ (bs_C ai d dw u.2.2.1 u.2.2.2 ++ tl))) A) A) args s 0 0 A) (F0 m 0 ls [])
  rw [f_bs_or] at hF
  refine lv_aload_n hx hb dJ0_or_0 rfl (lv_at hl 0 rfl) ?_
  refine lv_aload_n hx hb dJ0_or_1 rfl (lv_at hl 1 rfl) ?_
  refine mo_acmp_ne (tgt := 6) hx hb dJ0_or_2 (by decide) (fun h9 => ?_) (fun h9 => ?_)
  · refine lv_aload_n hx hb dJ0_or_6 rfl (lv_at hl 0 rfl) ?_
    refine b2_J0_g_bs_wordsInUse hC h0 hZ hI dJ0_or_7 ?_
    refine lv_aload_n hx hb dJ0_or_10 rfl (lv_at hl 1 rfl) ?_
    refine b2_J0_g_ob_wordsInUse hC h0 hZ hI dJ0_or_11 ?_
    refine mo_min (mo_CN hC) q651 (Nat.le_of_ble_eq_true rfl) (Nat.le_of_ble_eq_true rfl) hl.1 (Nat.le_of_ble_eq_true rfl) dJ0_or_14 ?_
    obtain ⟨x2_1, hx2_1, hF⟩ := lt_some hF
    refine mo_ist (lv' := [(2, .int x2_1), (0, .ref b), (1, .ref d)]) hx hb hx2_1 dJ0_or_17 rfl hl (by decide) rfl (fun ls hl => ?_)
    refine lv_aload_n hx hb dJ0_or_18 rfl (lv_at hl 1 rfl) ?_
    refine b2_J0_g_bs_wordsInUse hC h0 hZ hI dJ0_or_19 ?_
    refine lv_aload_n hx hb dJ0_or_22 rfl (lv_at hl 2 rfl) ?_
    refine b2_J0_g_ob_wordsInUse hC h0 hZ hI dJ0_or_23 ?_
    obtain ⟨j45_5, hj45_5, hF⟩ := lj_some hF
    have J45 : ∀ (us2 : Int32) (wd3 : Nat → Int64) (us24 : Int32) (wd25 : Nat → Int64) (H : Heap) (locs : List Loc) (ls : Array Slot), j45_5 us2 wd3 us24 wd25 = some (r0, u0) → mo_I G A s.heap (bs_C ai b bw us2 wd3 ++ (bs_C ai d dw us24 wd25 ++ tl)) H locs → lv_has ls 4 [(2, .int x2_1), (0, .ref b), (1, .ref d)] → W p l e ({ frames := 1, cells := 0, slots := 0, locals := 26 } : Room) s m args below meth c H locs 0 0 (MQ below (va_Qv (fun (u : Int32 × (Nat → Int64) × Int32 × (Nat → Int64)) => u = u0) (gw_E G ai (fun (u : Int32 × (Nat → Int64) × Int32 × (Nat → Int64)) => (bs_C ai b bw u.1 u.2.1 ++ (bs_C ai d dw u.2.2.1 u.2.2.2 ++ tl))) A) A) args s 0 0 A) (F0 m 45 ls []) := by
      intro us2 wd3 us24 wd25 H locs ls hF hI hl
      rw [hj45_5] at hF
      refine lv_iconst (v := 0) hx hb dJ0_or_45 (by decide) ?_
      refine mo_ist (lv' := [(3, .int 0), (2, .int x2_1), (0, .ref b), (1, .ref d)]) hx hb rfl dJ0_or_46 rfl hl (by decide) rfl (fun ls hl => ?_)
      refine w_bs_or_L47 hC h0 hZ hr x2_1 _ (fun us13 wd14 us215 wd216 H locs ls hF hI hl => ?_) 3 _ _ _ _ _ _ _ _ hF hI (lv_sub hl [0, 1, 2, 3] rfl)
      refine lv_iload_n hx hb dJ0_or_73 rfl (lv_at hl 0 rfl) ?_
      refine lv_aload_n hx hb dJ0_or_74 rfl (lv_at hl 2 rfl) ?_
      refine b2_J0_g_ob_wordsInUse hC h0 hZ hI dJ0_or_75 ?_
      obtain ⟨j100_20, hj100_20, hF⟩ := lj_some hF
      have J100 : ∀ (us17 : Int32) (wd18 : Nat → Int64) (us219 : Int32) (wd220 : Nat → Int64) (H : Heap) (locs : List Loc) (ls : Array Slot), j100_20 us17 wd18 us219 wd220 = some (r0, u0) → mo_I G A s.heap (bs_C ai b bw us17 wd18 ++ (bs_C ai d dw us219 wd220 ++ tl)) H locs → lv_has ls 4 [(0, .ref b)] → W p l e ({ frames := 1, cells := 0, slots := 0, locals := 26 } : Room) s m args below meth c H locs 0 0 (MQ below (va_Qv (fun (u : Int32 × (Nat → Int64) × Int32 × (Nat → Int64)) => u = u0) (gw_E G ai (fun (u : Int32 × (Nat → Int64) × Int32 × (Nat → Int64)) => (bs_C ai b bw u.1 u.2.1 ++ (bs_C ai d dw u.2.2.1 u.2.2.2 ++ tl))) A) A) args s 0 0 A) (F0 m 100 ls []) := by
        intro us17 wd18 us219 wd220 H locs ls hF hI hl
        rw [hj100_20] at hF
        refine lv_aload_n hx hb dJ0_or_100 rfl (lv_at hl 0 rfl) ?_
        obtain ⟨r22, hz23, hF⟩ := ov_some hF
        refine k_J0_bs_checkInvariants hC h0 hZ hI hz23 (Nat.le_of_ble_eq_true rfl) (Nat.le_of_ble_eq_true rfl) hl.1 (Nat.le_of_ble_eq_true rfl) dJ0_or_101 ?_
        cases hF
        exact W.vret hx hb hr (fun t ht hW => ⟨⟨_, rfl, rfl, by rw [ht]; exact hI.1, va_K.moved hW.alike hC.2.2.2.2.2.2.1, hI.2.1⟩, hI.2.2.F ht⟩) hI.2.2.2.2 dJ0_or_104 hC.2.2.2.2.2.1
      refine lv_icmp_ge (tgt := 100) hx hb dJ0_or_78 (by decide) (fun c24 => ?_) (fun c24 => ?_)
      · have hF := if_t hF c24
        exact J100 _ _ _ _ _ _ _ hF hI (lv_sub hl [1] rfl)
      · have hF := if_f hF c24
        refine lv_aload_n hx hb dJ0_or_81 rfl (lv_at hl 2 rfl) ?_
        refine b2_J0_g_ob_words hC h0 hZ hI dJ0_or_82 ?_
        refine lv_iload_n hx hb dJ0_or_85 rfl (lv_at hl 0 rfl) ?_
        refine lv_aload_n hx hb dJ0_or_86 rfl (lv_at hl 1 rfl) ?_
        refine b2_J0_g_bs_words hC h0 hZ hI dJ0_or_87 ?_
        refine lv_iload_n hx hb dJ0_or_90 rfl (lv_at hl 0 rfl) ?_
        refine lv_aload_n hx hb dJ0_or_91 rfl (lv_at hl 1 rfl) ?_
        refine b2_J0_g_bs_wordsInUse hC h0 hZ hI dJ0_or_92 ?_
        refine lv_iload_n hx hb dJ0_or_95 rfl (lv_at hl 0 rfl) ?_
        refine lv_isub hx hb dJ0_or_96 ?_
        obtain ⟨hg25, hF⟩ := gd_some hF
        obtain ⟨wd26, hwd26, hF⟩ := lt_some hF
        refine b2_J0_cp_obw_bsw hC hI hg25 hwd26 (Nat.le_of_ble_eq_true rfl) (Nat.le_of_ble_eq_true rfl) hl.1 (Nat.le_of_ble_eq_true rfl) dJ0_or_97 (fun H locs hI => ?_)
        exact J100 _ _ _ _ _ _ _ hF hI (lv_sub hl [1] rfl)
    refine lv_icmp_ge (tgt := 45) hx hb dJ0_or_26 (by decide) (fun c27 => ?_) (fun c27 => ?_)
    · have hF := if_t hF c27
      exact J45 _ _ _ _ _ _ _ hF hI (lv_sub hl [0, 1, 2] rfl)
    · have hF := if_f hF c27
      refine lv_aload_n hx hb dJ0_or_29 rfl (lv_at hl 1 rfl) ?_
      refine lv_aload_n hx hb dJ0_or_30 rfl (lv_at hl 2 rfl) ?_
      refine b2_J0_g_ob_wordsInUse hC h0 hZ hI dJ0_or_31 ?_
      obtain ⟨r28, u29, hz30, hF⟩ := ob_some hF
      refine k_J0_bs_ensureCapacity hC h0 hZ hI hz30 (Nat.le_of_ble_eq_true rfl) (Nat.le_of_ble_eq_true rfl) hl.1 (Nat.le_of_ble_eq_true rfl) dJ0_or_34 (fun H locs hI => ?_)
      refine lv_aload_n hx hb dJ0_or_37 rfl (lv_at hl 1 rfl) ?_
      refine lv_aload_n hx hb dJ0_or_38 rfl (lv_at hl 2 rfl) ?_
      refine b2_J0_g_ob_wordsInUse hC h0 hZ hI dJ0_or_39 ?_
      obtain ⟨us31, hus31, hF⟩ := lt_some hF
      refine b2_J0_p_bs_wordsInUse hC h0 hZ hI hus31 dJ0_or_42 (fun H locs hI => ?_)
      exact J45 _ _ _ _ _ _ _ hF hI (lv_sub hl [0, 1, 2] rfl)
  · exact absurd h9 (b2_ne hI)

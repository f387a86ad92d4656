set_option maxRecDepth 100000
def p_canEnc (a0 : Int32) : Int32 := if 255 < a0 then 0 else 1
theorem b_canEnc (a0 : Int32) : p_canEnc a0 = 0 ∨ p_canEnc a0 = 1 := by
  unfold p_canEnc
  (repeat' split) <;> simp
theorem w_p_canEnc (l : Launch) (a0 : Int32) (v0 : Int32) (hF : p_canEnc a0 = v0) : pu_Met l yJ20_canEncode cJ20_canEncode 1 (some .boolean) ({ frames := 0, cells := 0, slots := 0, locals := 0 } : Room) [.int a0] (.int v0) := by
  refine pu_body (by decide) (Nat.le_of_ble_eq_true rfl) ?_
  intro p e s m args below meth c ls hN hr hl
  have hx := hN.1
  have hb := hN.2.1
  have hl : lv_has ls 1 [(0, .int a0)] := hl
  rw [p_canEnc] at hF
  refine lv_iload_n hx hb dJ20_canEncode_0 rfl (lv_at hl 0 rfl) ?_
  refine lv_sipush (v := 255) hx hb dJ20_canEncode_1 (by decide) ?_
  refine lv_icmp_gt (tgt := 11) hx hb dJ20_canEncode_4 (by decide) (fun c1 => ?_) (fun c1 => ?_)
  · have hF := if_tv hF c1
    refine lv_iconst (v := 0) hx hb dJ20_canEncode_11 (by decide) ?_
    subst hF
    exact pu_iret (v := 0) hN hr rfl dJ20_canEncode_12
  · have hF := if_fv hF c1
    refine lv_iconst (v := 1) hx hb dJ20_canEncode_7 (by decide) ?_
    refine lv_goto (tgt := 12) hx hb dJ20_canEncode_8 (by decide) ?_
    subst hF
    exact pu_iret (v := 1) hN hr rfl dJ20_canEncode_12
theorem k_J12_canEnc {p : Program} {l : Launch} {e : Env} {R : Room} {s : State} {m : MethodId} {args : Array Value} {below : List Frame} {meth : Method} {c : Code} {H : Heap} {locs : List Loc} {cells slots : Nat} {Q : State → Prop} {pc : Nat} {ls : Array Slot} {rest : List Value} {cc : ByteArray} {nL f L : Nat} {a0 : Int32} (hN : mo_N p R s m args meth c RJ12 cc nL f L) (hf : 0 + 1 ≤ f) (hL : 8 + (1 + 11) + 0 ≤ L) (hsz : ls.size = nL) (hW : (rest.map fun v => v.category).sum ≤ 8) (hdg : decode cc pc = .ok (.invokestatic 191, 3)) (kk : W p l e R s m args below meth c H locs cells slots Q (F0 m (pc + 3) ls (.int (p_canEnc a0) :: rest))) (hc0 : cells ≤ R.cells := by first | exact Nat.zero_le _ | exact Nat.le_of_ble_eq_true rfl | assumption | omega) (hs0 : slots ≤ R.slots := by first | exact Nat.zero_le _ | exact Nat.le_of_ble_eq_true rfl | assumption | omega) : W p l e R s m args below meth c H locs cells slots Q (F0 m pc ls (.int a0 :: rest)) :=
  pu_cS hN 1 (w_p_canEnc l a0 _ rfl) q1678 q1679 q147 q1680 rfl rfl (by decide +kernel) rfl hf hL hc0 hs0 hsz rfl hW hdg kk
theorem sb60_J12_g_sb_value {p : Program} {l : Launch} {e : Env} {R : Room} {s s0 : State} {b0 : Addr} {m : MethodId} {args : Array Value} {below : List Frame} {meth : Method} {c : Code} {H : Heap} {locs : List Loc} {cells slots : Nat} {Q : State → Prop} {pc : Nat} {ls : Array Slot} {rest : List Value} {G : va_G} {ai : Nat → ClassId} {A : Nat → Prop} {cc : ByteArray} {nL f L kc ks : Nat} {qs qb : Nat} {tl : va_W} {bt : Nat → Int32} {cn : Int32} {fl : Int32} (hC : mo_C p R s m args meth c G ai A RJ12 cc nL f L kc ks) (h0 : mo_S0 s0 b0) (hZ : mo_Z s0 A s) (hI : mo_I G A s.heap (sb_C ai qs qb 60 bt cn fl ++ tl) H locs) (hdg : decode cc pc = .ok (.getfield 15, 3)) (kk : W p l e R s m args below meth c H locs cells slots Q (F0 m (pc + 3) ls (.ref (qb) :: rest))) : W p l e R s m args below meth c H locs cells slots Q (F0 m pc ls (.ref (qs) :: rest)) :=
  va_get (D := G) (ci := 16) (C := RJ13) (T := TJ13) (N := 4) hC.1 hC.2.1 hC.2.2.2.2.1 in_J13 hC.2.2.2.1 hC.2.2.2.2.2.2.1 hI.1 0 rfl rfl 0 (by decide) (hC.2.2.2.2.1 _ q522) (fun _ h9 => h9) rfl hdg kk
theorem sb60_n_sbb {own : String} {p : Program} {l : Launch} {e : Env} {R : Room} {s : State} {m : MethodId} {args : Array Value} {below : List Frame} {meth : Method} {c : Code} {H : Heap} {locs : List Loc} {cells slots : Nat} {Q : State → Prop} {pc : Nat} {ls : Array Slot} {rest : List Value} {G : va_G} {ai : Nat → ClassId} {A : Nat → Prop} {cc : ByteArray} {nL f L kc ks : Nat} {qs qb : Nat} {tl : va_W} {bt : Nat → Int32} {cn : Int32} {fl : Int32} (hC : mo_C p R s m args meth c G ai A own cc nL f L kc ks) (hI : mo_I G A s.heap (sb_C ai qs qb 60 bt cn fl ++ tl) H locs) (hdg : decode cc pc = .ok (.arraylength, 1)) (kk : W p l e R s m args below meth c H locs cells slots Q (F0 m (pc + 1) ls (.int 60 :: rest))) : W p l e R s m args below meth c H locs cells slots Q (F0 m pc ls (.ref (qb) :: rest)) :=
  va_alen (v := 60) hC.1 hC.2.1 hC.2.2.2.2.2.2.1 hI.1 1 2 rfl rfl rfl hdg kk
theorem sb60_J12_g_sb_coder {p : Program} {l : Launch} {e : Env} {R : Room} {s s0 : State} {b0 : Addr} {m : MethodId} {args : Array Value} {below : List Frame} {meth : Method} {c : Code} {H : Heap} {locs : List Loc} {cells slots : Nat} {Q : State → Prop} {pc : Nat} {ls : Array Slot} {rest : List Value} {G : va_G} {ai : Nat → ClassId} {A : Nat → Prop} {cc : ByteArray} {nL f L kc ks : Nat} {qs qb : Nat} {tl : va_W} {bt : Nat → Int32} {cn : Int32} {fl : Int32} (hC : mo_C p R s m args meth c G ai A RJ12 cc nL f L kc ks) (h0 : mo_S0 s0 b0) (hZ : mo_Z s0 A s) (hI : mo_I G A s.heap (sb_C ai qs qb 60 bt cn fl ++ tl) H locs) (hdg : decode cc pc = .ok (.getfield 22, 3)) (kk : W p l e R s m args below meth c H locs cells slots Q (F0 m (pc + 3) ls (.int 0 :: rest))) : W p l e R s m args below meth c H locs cells slots Q (F0 m pc ls (.ref (qs) :: rest)) :=
  va_get (D := G) (ci := 16) (C := RJ13) (T := TJ13) (N := 4) hC.1 hC.2.1 hC.2.2.2.2.1 in_J13 hC.2.2.2.1 hC.2.2.2.2.2.2.1 hI.1 0 rfl rfl 1 (by decide) (hC.2.2.2.2.1 _ q523) (fun _ h9 => h9) rfl hdg kk
theorem sb60_J12_g_sb_count {p : Program} {l : Launch} {e : Env} {R : Room} {s s0 : State} {b0 : Addr} {m : MethodId} {args : Array Value} {below : List Frame} {meth : Method} {c : Code} {H : Heap} {locs : List Loc} {cells slots : Nat} {Q : State → Prop} {pc : Nat} {ls : Array Slot} {rest : List Value} {G : va_G} {ai : Nat → ClassId} {A : Nat → Prop} {cc : ByteArray} {nL f L kc ks : Nat} {qs qb : Nat} {tl : va_W} {bt : Nat → Int32} {cn : Int32} {fl : Int32} (hC : mo_C p R s m args meth c G ai A RJ12 cc nL f L kc ks) (h0 : mo_S0 s0 b0) (hZ : mo_Z s0 A s) (hI : mo_I G A s.heap (sb_C ai qs qb 60 bt cn fl ++ tl) H locs) (hdg : decode cc pc = .ok (.getfield 79, 3)) (kk : W p l e R s m args below meth c H locs cells slots Q (F0 m (pc + 3) ls (.int (cn) :: rest))) : W p l e R s m args below meth c H locs cells slots Q (F0 m pc ls (.ref (qs) :: rest)) :=
  va_get (D := G) (ci := 16) (C := RJ13) (T := TJ13) (N := 4) hC.1 hC.2.1 hC.2.2.2.2.1 in_J13 hC.2.2.2.1 hC.2.2.2.2.2.2.1 hI.1 0 rfl rfl 3 (by decide) (hC.2.2.2.2.1 _ q526) (fun _ h9 => h9) rfl hdg kk
theorem sb60_J12_p_sb_count {p : Program} {l : Launch} {e : Env} {R : Room} {s s0 : State} {b0 : Addr} {m : MethodId} {args : Array Value} {below : List Frame} {meth : Method} {c : Code} {H : Heap} {locs : List Loc} {cells slots : Nat} {Q : State → Prop} {pc : Nat} {ls : Array Slot} {rest : List Value} {G : va_G} {ai : Nat → ClassId} {A : Nat → Prop} {cc : ByteArray} {nL f L kc ks : Nat} {qs qb : Nat} {tl : va_W} {bt : Nat → Int32} {cn : Int32} {fl : Int32} {x : Int32} {z1 : Int32} (hC : mo_C p R s m args meth c G ai A RJ12 cc nL f L kc ks) (h0 : mo_S0 s0 b0) (hZ : mo_Z s0 A s) (hI : mo_I G A s.heap (sb_C ai qs qb 60 bt cn fl ++ tl) H locs) (hM : z1 = x) (hdg : decode cc pc = .ok (.putfield 79, 3)) (kk : ∀ (H1 : Heap) (locs1 : List Loc), mo_I G A s.heap (sb_C ai qs qb 60 bt z1 fl ++ tl) H1 locs1 → W p l e R s m args below meth c H1 locs1 cells slots Q (F0 m (pc + 3) ls (rest))) : W p l e R s m args below meth c H locs cells slots Q (F0 m pc ls (.int x :: .ref (qs) :: rest)) := by
  subst z1
  exact va_put (D := G) (ci := 16) (v := .int x) (ty := .int) (C := RJ13) (T := TJ13) (N := 4) hC.1 hC.2.1 hC.2.2.2.2.1 in_J13 tyJ13 tyJ13_ok nmJ13 hC.2.2.2.1 hC.2.2.2.2.2.2.1 hI.1 hI.2.1 hI.2.2 0 rfl rfl 3 (by decide) (hC.2.2.2.2.1 _ q526) (fun _ h9 => h9) rfl (by decide +kernel) rfl rfl (Nat.le_of_ble_eq_true rfl) hdg (fun H locs hP hD hS => kk H locs ⟨hP, hD, hS⟩)
theorem sb60_s_sbb {own : String} {p : Program} {l : Launch} {e : Env} {R : Room} {s : State} {m : MethodId} {args : Array Value} {below : List Frame} {meth : Method} {c : Code} {H : Heap} {locs : List Loc} {cells slots : Nat} {Q : State → Prop} {pc : Nat} {ls : Array Slot} {rest : List Value} {G : va_G} {ai : Nat → ClassId} {A : Nat → Prop} {cc : ByteArray} {nL f L kc ks : Nat} {qs qb : Nat} {tl : va_W} {bt : Nat → Int32} {cn : Int32} {fl : Int32} {j : Int32} {x : Int32} {z1 : Nat → Int32} (hC : mo_C p R s m args meth c G ai A own cc nL f L kc ks) (hI : mo_I G A s.heap (sb_C ai qs qb 60 bt cn fl ++ tl) H locs) (hg : gi j 60 = true) (hn : narrow .byte (.int x) = .int x) (hM : z1 = upd bt j.toNatClampNeg x) (hdg : decode cc pc = .ok (.bastore, 1)) (kk : ∀ (H1 : Heap) (locs1 : List Loc), mo_I G A s.heap (sb_C ai qs qb 60 z1 cn fl ++ tl) H1 locs1 → W p l e R s m args below meth c H1 locs1 cells slots Q (F0 m (pc + 1) ls (rest))) : W p l e R s m args below meth c H locs cells slots Q (F0 m pc ls (.int x :: .int j :: .ref (qb) :: rest)) := by
  subst z1
  have e9 : vp_nar FieldType.byte x = x := by unfold vp_nar; rw [hn]
  exact va_bast hC.1 hC.2.1 hC.2.2.2.2.2.2.1 hI.1 hI.2.1 hI.2.2 1 2 rfl rfl (gi_in hg) hdg (fun H locs hP hD hS => by rw [e9] at hP hD; exact kk H locs ⟨hP, hD, hS⟩)
theorem sb60_l_sbb {own : String} {p : Program} {l : Launch} {e : Env} {R : Room} {s : State} {m : MethodId} {args : Array Value} {below : List Frame} {meth : Method} {c : Code} {H : Heap} {locs : List Loc} {cells slots : Nat} {Q : State → Prop} {pc : Nat} {ls : Array Slot} {rest : List Value} {G : va_G} {ai : Nat → ClassId} {A : Nat → Prop} {cc : ByteArray} {nL f L kc ks : Nat} {qs qb : Nat} {tl : va_W} {bt : Nat → Int32} {cn : Int32} {fl : Int32} {j : Int32} (hC : mo_C p R s m args meth c G ai A own cc nL f L kc ks) (hI : mo_I G A s.heap (sb_C ai qs qb 60 bt cn fl ++ tl) H locs) (hg : gi j 60 = true) (hdg : decode cc pc = .ok (.baload, 1)) (kk : W p l e R s m args below meth c H locs cells slots Q (F0 m (pc + 1) ls (.int (bt j.toNatClampNeg) :: rest))) : W p l e R s m args below meth c H locs cells slots Q (F0 m pc ls (.int j :: .ref (qb) :: rest)) :=
  va_bald hC.1 hC.2.1 hC.2.2.2.2.2.2.1 hI.1 1 2 rfl rfl (gi_in hg) hdg kk
theorem sb60_J12_p_sb_maybeLatin1 {p : Program} {l : Launch} {e : Env} {R : Room} {s s0 : State} {b0 : Addr} {m : MethodId} {args : Array Value} {below : List Frame} {meth : Method} {c : Code} {H : Heap} {locs : List Loc} {cells slots : Nat} {Q : State → Prop} {pc : Nat} {ls : Array Slot} {rest : List Value} {G : va_G} {ai : Nat → ClassId} {A : Nat → Prop} {cc : ByteArray} {nL f L kc ks : Nat} {qs qb : Nat} {tl : va_W} {bt : Nat → Int32} {cn : Int32} {fl : Int32} {x : Int32} {z1 : Int32} (hC : mo_C p R s m args meth c G ai A RJ12 cc nL f L kc ks) (h0 : mo_S0 s0 b0) (hZ : mo_Z s0 A s) (hI : mo_I G A s.heap (sb_C ai qs qb 60 bt cn fl ++ tl) H locs) (hz : x = 0 ∨ x = 1) (hM : z1 = x) (hdg : decode cc pc = .ok (.putfield 73, 3)) (kk : ∀ (H1 : Heap) (locs1 : List Loc), mo_I G A s.heap (sb_C ai qs qb 60 bt cn z1 ++ tl) H1 locs1 → W p l e R s m args below meth c H1 locs1 cells slots Q (F0 m (pc + 3) ls (rest))) : W p l e R s m args below meth c H locs cells slots Q (F0 m pc ls (.int x :: .ref (qs) :: rest)) := by
  subst z1
  exact va_put (D := G) (ci := 16) (v := .int x) (ty := .boolean) (C := RJ13) (T := TJ13) (N := 4) hC.1 hC.2.1 hC.2.2.2.2.1 in_J13 tyJ13 tyJ13_ok nmJ13 hC.2.2.2.1 hC.2.2.2.2.2.2.1 hI.1 hI.2.1 hI.2.2 0 rfl rfl 2 (by decide) (hC.2.2.2.2.1 _ q524) (fun _ h9 => h9) rfl (by decide +kernel) (by rcases hz with h | h <;> (rw [h]; rfl)) (by rcases hz with h | h <;> (rw [h]; rfl)) (Nat.le_of_ble_eq_true rfl) hdg (fun H locs hP hD hS => kk H locs ⟨hP, hD, hS⟩)
def f_sb60_ens (bt : Nat → Int32) (cn : Int32) (fl : Int32) (a1 : Int32) : Option Int32 := lt (((60 : Int32) >>> (0 &&& 31))) (fun x2_1 => gd (decide ((a1 - x2_1) ≤ 0)) (some 0))
set_option maxHeartbeats 4000000 in
theorem w_sb60_ens (l : Launch) (G : va_G) (ai : Nat → ClassId) {s0 : State} {b0 : Addr} (h0 : mo_S0 s0 b0) {qs qb : Nat} {tl : va_W} (bt : Nat → Int32) (cn : Int32) (fl : Int32) (a1 : Int32) (r0 : Int32) (hF : f_sb60_ens bt cn fl a1 = some r0) : rv_Met l G ai s0 yJ12_ensureCapacityInternal cJ12_ensureCapacityInternal 3 ({ frames := 0, cells := 0, slots := 0, locals := 0 } : Room) [.ref qs, .int a1] (sb_C ai qs qb 60 bt cn fl ++ tl) := by
  refine gz_body (Qc := fun _ => rv_Q) (fr := fun _ _ => False) (by decide) (Nat.le_of_ble_eq_true rfl) ?_
  intro p e s m args below meth c A ls hC hZ hr hI hl hnm
  have hx := hC.1
  have hb := hC.2.1
  have hl : lv_has ls 3 [(0, .ref qs), (1, .int a1)] := hl
  show W p l e _ s m args below meth c s.heap [] 0 0 (MQ below rv_Q args s 0 0 (fun _ => False)) (F0 m 0 ls [])
  rw [f_sb60_ens] at hF
  refine lv_aload_n hx hb dJ12_ensureCapacityInternal_0 rfl (lv_at hl 0 rfl) ?_
  refine sb60_J12_g_sb_value hC h0 hZ hI dJ12_ensureCapacityInternal_1 ?_
  refine sb60_n_sbb hC hI dJ12_ensureCapacityInternal_4 ?_
  refine lv_aload_n hx hb dJ12_ensureCapacityInternal_5 rfl (lv_at hl 0 rfl) ?_
  refine sb60_J12_g_sb_coder hC h0 hZ hI dJ12_ensureCapacityInternal_6 ?_
  refine lv_ishr hx hb dJ12_ensureCapacityInternal_9 ?_
  obtain ⟨x2_1, hx2_1, hF⟩ := lt_some hF
  refine mo_ist (lv' := [(2, .int x2_1), (0, .ref qs), (1, .int a1)]) hx hb hx2_1 dJ12_ensureCapacityInternal_10 rfl hl (by decide) rfl (fun ls hl => ?_)
  refine lv_iload_n hx hb dJ12_ensureCapacityInternal_11 rfl (lv_at hl 2 rfl) ?_
  refine lv_iload_n hx hb dJ12_ensureCapacityInternal_12 rfl (lv_at hl 0 rfl) ?_
  refine lv_isub hx hb dJ12_ensureCapacityInternal_13 ?_
  obtain ⟨hg3, hF⟩ := gd_some hF
  have c2 := of_decide_eq_true hg3
  refine lv_if_le (tgt := 38) hx hb dJ12_ensureCapacityInternal_14 (by decide) (fun h9 => ?_) (fun h9 => ?_)
  · exact rd_vret hC hr dJ12_ensureCapacityInternal_38
  · exact absurd c2 h9
theorem k_J12_sb60_ens {p : Program} {l : Launch} {e : Env} {R : Room} {s s0 : State} {b0 : Addr} {m : MethodId} {args : Array Value} {below : List Frame} {meth : Method} {c : Code} {H : Heap} {locs : List Loc} {cells slots : Nat} {Q : State → Prop} {pc : Nat} {ls : Array Slot} {rest : List Value} {G : va_G} {ai : Nat → ClassId} {A : Nat → Prop} {cc : ByteArray} {nL f L kc ks : Nat} {qs qb : Nat} {tl : va_W} {bt : Nat → Int32} {cn : Int32} {fl : Int32} {a1 : Int32}  {r1 : Int32} (hC : mo_C p R s m args meth c G ai A RJ12 cc nL f L kc ks) (h0 : mo_S0 s0 b0) (hZ : mo_Z s0 A s) (hI : mo_I G A s.heap (sb_C ai qs qb 60 bt cn fl ++ tl) H locs) (hz : f_sb60_ens bt cn fl a1 = some r1) (hf : 0 + 1 ≤ f) (hL : 8 + (3 + 11) + 0 ≤ L) (hsz : ls.size = nL) (hW : (rest.map fun v => v.category).sum ≤ 8) (hdg : decode cc pc = .ok (.invokevirtual 100, 3)) (kk : W p l e R s m args below meth c H locs cells slots Q (F0 m (pc + 3) ls (rest))) (hc0 : cells ≤ kc := by first | exact Nat.zero_le _ | exact Nat.le_of_ble_eq_true rfl | assumption | omega) (hs0 : slots ≤ ks := by first | exact Nat.zero_le _ | exact Nat.le_of_ble_eq_true rfl | assumption | omega) : W p l e R s m args below meth c H locs cells slots Q (F0 m pc ls (.int a1 :: .ref qs :: rest)) :=
  rv_use (va_runVP (As := [.int a1]) (rest := rest) (n := 1) ⟨hC.1, hC.2.1, hC.2.2.1, hC.2.2.2.1, hC.2.2.2.2.1⟩ (w_sb60_ens l G ai h0 bt cn fl a1 r1 hz H.size) q1427 q1430 q137 q1429 (mo_priv h0 hZ q1428) q2429 ⟨by decide, by decide⟩ (by decide +kernel) rfl rfl ⟨Nat.le_trans hf hC.2.2.2.2.2.2.2.2.1, Nat.le_trans hL hC.2.2.2.2.2.2.2.2.2.1⟩ ⟨gz_blind, (va_recv hC.2.2.2.2.2.2.1 hI.1 (ci := 16) (q0 := 0) rfl rfl), gz_pre0 hC hZ hI⟩ rfl rfl hsz rfl (lv_room hW) hdg ⟨Nat.le_trans hc0 hC.2.2.2.2.2.2.2.2.2.2.1, Nat.le_trans hs0 hC.2.2.2.2.2.2.2.2.2.2.2⟩) kk
def f_sb60_isL (bt : Nat → Int32) (cn : Int32) (fl : Int32) : Option Int32 := some 1
set_option maxHeartbeats 4000000 in
theorem w_sb60_isL (l : Launch) (G : va_G) (ai : Nat → ClassId) {s0 : State} {b0 : Addr} (h0 : mo_S0 s0 b0) {qs qb : Nat} {tl : va_W} (bt : Nat → Int32) (cn : Int32) (fl : Int32) (r0 : Int32) (hF : f_sb60_isL bt cn fl = some r0) : rd_Met l G ai s0 yJ12_isLatin1 cJ12_isLatin1 1 (some .boolean) ({ frames := 0, cells := 0, slots := 0, locals := 0 } : Room) [.ref qs] (sb_C ai qs qb 60 bt cn fl ++ tl) (.int r0) := by
  refine gz_body (Qc := fun _ => rd_Q (.int r0)) (fr := fun _ _ => False) (by decide) (Nat.le_of_ble_eq_true rfl) ?_
  intro p e s m args below meth c A ls hC hZ hr hI hl hnm
  have hx := hC.1
  have hb := hC.2.1
  have hl : lv_has ls 1 [(0, .ref qs)] := hl
  show W p l e _ s m args below meth c s.heap [] 0 0 (MQ below (rd_Q (.int r0)) args s 0 0 (fun _ => False)) (F0 m 0 ls [])
  rw [f_sb60_isL] at hF
  refine va_gets hx hb (zs_cs h0 hZ) hI.2.2 hC.2.2.2.1 (hC.2.2.2.2.1 _ q513) (fun _ h9 => h9) dJ12_isLatin1_0 ?_
  refine lv_if_eq (tgt := 17) hx hb dJ12_isLatin1_3 (by decide) (fun h9 => ?_) (fun h9 => ?_)
  · exact absurd h9 (by decide)
  · refine lv_aload_n hx hb dJ12_isLatin1_6 rfl (lv_at hl 0 rfl) ?_
    refine sb60_J12_g_sb_coder hC h0 hZ hI dJ12_isLatin1_7 ?_
    refine lv_if_ne (tgt := 17) hx hb dJ12_isLatin1_10 (by decide) (fun h9 => ?_) (fun h9 => ?_)
    · exact absurd h9 (by decide)
    · refine lv_iconst (v := 1) hx hb dJ12_isLatin1_13 (by decide) ?_
      refine lv_goto (tgt := 18) hx hb dJ12_isLatin1_14 (by decide) ?_
      have hF := Option.some.inj hF
      subst hF
      exact rd_iret hC hr rfl dJ12_isLatin1_18
theorem k_J12_sb60_isL {p : Program} {l : Launch} {e : Env} {R : Room} {s s0 : State} {b0 : Addr} {m : MethodId} {args : Array Value} {below : List Frame} {meth : Method} {c : Code} {H : Heap} {locs : List Loc} {cells slots : Nat} {Q : State → Prop} {pc : Nat} {ls : Array Slot} {rest : List Value} {G : va_G} {ai : Nat → ClassId} {A : Nat → Prop} {cc : ByteArray} {nL f L kc ks : Nat} {qs qb : Nat} {tl : va_W} {bt : Nat → Int32} {cn : Int32} {fl : Int32}  {r1 : Int32} (hC : mo_C p R s m args meth c G ai A RJ12 cc nL f L kc ks) (h0 : mo_S0 s0 b0) (hZ : mo_Z s0 A s) (hI : mo_I G A s.heap (sb_C ai qs qb 60 bt cn fl ++ tl) H locs) (hz : f_sb60_isL bt cn fl = some r1) (hf : 0 + 1 ≤ f) (hL : 8 + (1 + 11) + 0 ≤ L) (hsz : ls.size = nL) (hW : (rest.map fun v => v.category).sum ≤ 8) (hdg : decode cc pc = .ok (.invokevirtual 83, 3)) (kk : W p l e R s m args below meth c H locs cells slots Q (F0 m (pc + 3) ls (.int r1 :: rest))) (hc0 : cells ≤ kc := by first | exact Nat.zero_le _ | exact Nat.le_of_ble_eq_true rfl | assumption | omega) (hs0 : slots ≤ ks := by first | exact Nat.zero_le _ | exact Nat.le_of_ble_eq_true rfl | assumption | omega) : W p l e R s m args below meth c H locs cells slots Q (F0 m pc ls (.ref qs :: rest)) :=
  rd_use (va_runVS (As := []) (rest := rest) (n := 0) ⟨hC.1, hC.2.1, hC.2.2.1, hC.2.2.2.1, hC.2.2.2.2.1⟩ (w_sb60_isL l G ai h0 bt cn fl r1 hz H.size) q1452 q1456 q137 q1453 q1455 ⟨by decide, by decide⟩ (by decide +kernel) rfl rfl ⟨Nat.le_trans hf hC.2.2.2.2.2.2.2.2.1, Nat.le_trans hL hC.2.2.2.2.2.2.2.2.2.1⟩ ⟨gz_blind, (va_recv hC.2.2.2.2.2.2.1 hI.1 (ci := 16) (q0 := 0) rfl rfl), gz_pre0 hC hZ hI⟩ rfl rfl hsz rfl (lv_room hW) hdg ⟨Nat.le_trans hc0 hC.2.2.2.2.2.2.2.2.2.2.1, Nat.le_trans hs0 hC.2.2.2.2.2.2.2.2.2.2.2⟩) kk
def f_sb60_app0 (bt : Nat → Int32) (cn : Int32) (fl : Int32) (a1 : Int32) : Option ((Int32 × (Nat → Int32) × Int32 × Int32)) := ov (f_sb60_ens bt cn fl ((cn) + 1)) (fun r1 => ov (f_sb60_isL bt cn fl) (fun r3 => lj (fun (bt5 : Nat → Int32) (cn6 : Int32) (fl7 : Int32) => some (0, (bt5, cn6, fl7))) (fun j75_7 => gd (decide (¬ (r3 = 0))) (gd (decide (¬ ((p_canEnc a1) = 0))) (lt (((cn) + 1)) (fun cn13 => gd (gi (cn) 60) (gd (gby a1.toInt8.toInt32) (lt (upd bt (cn).toNatClampNeg a1.toInt8.toInt32) (fun bt16 => j75_7 bt16 cn13 fl)))))))))
set_option maxHeartbeats 4000000 in
theorem w_sb60_app0 (l : Launch) (G : va_G) (ai : Nat → ClassId) {s0 : State} {b0 : Addr} (h0 : mo_S0 s0 b0) {qs qb : Nat} {tl : va_W} (bt : Nat → Int32) (cn : Int32) (fl : Int32) (a1 : Int32) (r0 : Int32) (u0 : (Nat → Int32) × Int32 × Int32) (hF : f_sb60_app0 bt cn fl a1 = some (r0, u0)) : gz_Mr l G ai s0 (fun (u : (Nat → Int32) × Int32 × Int32) => (sb_C ai qs qb 60 u.1 u.2.1 u.2.2 ++ tl)) yJ12_append_2 cJ12_append_2 2 (some (.object "java/lang/AbstractStringBuilder")) ({ frames := 1, cells := 0, slots := 0, locals := 22 } : Room) [.ref qs, .int a1] (sb_C ai qs qb 60 bt cn fl ++ tl) (fun (ra : Nat) (u : (Nat → Int32) × Int32 × Int32) => ra = qs ∧ u = u0) 0 0 := by
  refine gz_body (Qc := fun A => va_Qr (S := (Nat → Int32) × Int32 × Int32) (fun _ => True) (fun u ra t => (ra = qs ∧ u = u0) ∧ gw_E G ai (fun (u : (Nat → Int32) × Int32 × Int32) => (sb_C ai qs qb 60 u.1 u.2.1 u.2.2 ++ tl)) A u t) A) (fr := fun A => A) (by decide) (Nat.le_of_ble_eq_true rfl) ?_
  intro p e s m args below meth c A ls hC hZ hr hI hl hnm
  have hx := hC.1
  have hb := hC.2.1
  have hl : lv_has ls 2 [(0, .ref qs), (1, .int a1)] := hl
  show W p l e _ s m args below meth c s.heap [] 0 0 (MQ below (va_Qr (S := (Nat → Int32) × Int32 × Int32) (fun _ => True) (fun u ra t => (ra = qs ∧ u = u0) ∧ gw_E G ai (fun (u : (Nat → Int32) × Int32 × Int32) => (sb_C ai qs qb 60 u.1 u.2.1 u.2.2 ++ tl)) A u t) A) args s 0 0 A) (F0 m 0 ls [])
  rw [f_sb60_app0] at hF
  refine lv_aload_n hx hb dJ12_append_2_0 rfl (lv_at hl 0 rfl) ?_
  refine lv_aload_n hx hb dJ12_append_2_1 rfl (lv_at hl 0 rfl) ?_
  refine sb60_J12_g_sb_count hC h0 hZ hI dJ12_append_2_2 ?_
  refine lv_iconst (v := 1) hx hb dJ12_append_2_5 (by decide) ?_
  refine lv_iadd hx hb dJ12_append_2_6 ?_
  obtain ⟨r1, hz2, hF⟩ := ov_some hF
  refine k_J12_sb60_ens hC h0 hZ hI hz2 (Nat.le_of_ble_eq_true rfl) (Nat.le_of_ble_eq_true rfl) hl.1 (Nat.le_of_ble_eq_true rfl) dJ12_append_2_7 ?_
  refine lv_aload_n hx hb dJ12_append_2_10 rfl (lv_at hl 0 rfl) ?_
  obtain ⟨r3, hz4, hF⟩ := ov_some hF
  refine k_J12_sb60_isL hC h0 hZ hI hz4 (Nat.le_of_ble_eq_true rfl) (Nat.le_of_ble_eq_true rfl) hl.1 (Nat.le_of_ble_eq_true rfl) dJ12_append_2_11 ?_
  obtain ⟨j75_7, hj75_7, hF⟩ := lj_some hF
  have J75 : ∀ (bt5 : Nat → Int32) (cn6 : Int32) (fl7 : Int32) (H : Heap) (locs : List Loc) (ls : Array Slot), j75_7 bt5 cn6 fl7 = some (r0, u0) → mo_I G A s.heap (sb_C ai qs qb 60 bt5 cn6 fl7 ++ tl) H locs → lv_has ls 2 [(0, .ref qs)] → W p l e ({ frames := 1, cells := 0, slots := 0, locals := 22 } : Room) s m args below meth c H locs 0 0 (MQ below (va_Qr (S := (Nat → Int32) × Int32 × Int32) (fun _ => True) (fun u ra t => (ra = qs ∧ u = u0) ∧ gw_E G ai (fun (u : (Nat → Int32) × Int32 × Int32) => (sb_C ai qs qb 60 u.1 u.2.1 u.2.2 ++ tl)) A u t) A) args s 0 0 A) (F0 m 75 ls []) := by
    intro bt5 cn6 fl7 H locs ls hF hI hl
    rw [hj75_7] at hF
    refine lv_aload_n hx hb dJ12_append_2_75 rfl (lv_at hl 0 rfl) ?_
    cases hF
    exact W.aret hx hb hr (Or.inl ⟨_, rfl⟩) (Or.inr ⟨_, rfl⟩) (fun t ht hW => ⟨⟨_, _, rfl, trivial, ⟨rfl, rfl⟩, by rw [ht]; exact hI.1, va_K.moved hW.alike hC.2.2.2.2.2.2.1, hI.2.1⟩, hI.2.2.F ht⟩) hI.2.2.2.2 dJ12_append_2_76 hC.2.2.2.2.2.1
  obtain ⟨hg10, hF⟩ := gd_some hF
  have c9 := of_decide_eq_true hg10
  refine lv_if_eq (tgt := 45) hx hb dJ12_append_2_14 (by decide) (fun h9 => ?_) (fun h9 => ?_)
  · exact absurd h9 c9
  · refine lv_iload_n hx hb dJ12_append_2_17 rfl (lv_at hl 1 rfl) ?_
    refine k_J12_canEnc (mo_CN hC) (Nat.le_of_ble_eq_true rfl) (Nat.le_of_ble_eq_true rfl) hl.1 (Nat.le_of_ble_eq_true rfl) dJ12_append_2_18 ?_
    obtain ⟨hg12, hF⟩ := gd_some hF
    have c11 := of_decide_eq_true hg12
    refine lv_if_eq (tgt := 45) hx hb dJ12_append_2_21 (by decide) (fun h9 => ?_) (fun h9 => ?_)
    · exact absurd h9 c11
    · refine lv_aload_n hx hb dJ12_append_2_24 rfl (lv_at hl 0 rfl) ?_
      refine sb60_J12_g_sb_value hC h0 hZ hI dJ12_append_2_25 ?_
      refine lv_aload_n hx hb dJ12_append_2_28 rfl (lv_at hl 0 rfl) ?_
      refine lv_dup hx hb dJ12_append_2_29 rfl ?_
      refine sb60_J12_g_sb_count hC h0 hZ hI dJ12_append_2_30 ?_
      refine lv_dup_x1 hx hb dJ12_append_2_33 rfl rfl ?_
      refine lv_iconst (v := 1) hx hb dJ12_append_2_34 (by decide) ?_
      refine lv_iadd hx hb dJ12_append_2_35 ?_
      obtain ⟨cn13, hcn13, hF⟩ := lt_some hF
      refine sb60_J12_p_sb_count hC h0 hZ hI hcn13 dJ12_append_2_36 (fun H locs hI => ?_)
      refine lv_iload_n hx hb dJ12_append_2_39 rfl (lv_at hl 1 rfl) ?_
      refine lv_i2b hx hb dJ12_append_2_40 rfl ?_
      obtain ⟨hg14, hF⟩ := gd_some hF
      obtain ⟨hg15, hF⟩ := gd_some hF
      obtain ⟨bt16, hbt16, hF⟩ := lt_some hF
      refine sb60_s_sbb hC hI hg14 (gby_n hg15) hbt16 dJ12_append_2_41 (fun H locs hI => ?_)
      refine lv_goto (tgt := 75) hx hb dJ12_append_2_42 (by decide) ?_
      exact J75 _ _ _ _ _ _ hF hI (lv_sub hl [0] rfl)
theorem k_J13_sb60_app0 {p : Program} {l : Launch} {e : Env} {R : Room} {s s0 : State} {b0 : Addr} {m : MethodId} {args : Array Value} {below : List Frame} {meth : Method} {c : Code} {H : Heap} {locs : List Loc} {cells slots : Nat} {Q : State → Prop} {pc : Nat} {ls : Array Slot} {rest : List Value} {G : va_G} {ai : Nat → ClassId} {A : Nat → Prop} {cc : ByteArray} {nL f L kc ks : Nat} {qs qb : Nat} {tl : va_W} {bt : Nat → Int32} {cn : Int32} {fl : Int32} {a1 : Int32}  {r1 : Int32} {u1 : (Nat → Int32) × Int32 × Int32} (hC : mo_C p R s m args meth c G ai A RJ13 cc nL f L kc ks) (h0 : mo_S0 s0 b0) (hZ : mo_Z s0 A s) (hI : mo_I G A s.heap (sb_C ai qs qb 60 bt cn fl ++ tl) H locs) (hz : f_sb60_app0 bt cn fl a1 = some (r1, u1)) (hf : 1 + 1 ≤ f) (hL : 8 + (2 + 11) + 22 ≤ L) (hsz : ls.size = nL) (hW : (rest.map fun v => v.category).sum ≤ 8) (hdg : decode cc pc = .ok (.invokespecial 50, 3)) (kk : ∀ (H1 : Heap) (locs1 : List Loc), mo_I G A s.heap (sb_C ai qs qb 60 u1.1 u1.2.1 u1.2.2 ++ tl) H1 locs1 → W p l e R s m args below meth c H1 locs1 cells slots Q (F0 m (pc + 3) ls (.ref (qs) :: rest))) (hc0 : cells + 0 ≤ kc := by first | exact Nat.zero_le _ | exact Nat.le_of_ble_eq_true rfl | assumption | omega) (hs0 : slots + 0 ≤ ks := by first | exact Nat.zero_le _ | exact Nat.le_of_ble_eq_true rfl | assumption | omega) : W p l e R s m args below meth c H locs cells slots Q (F0 m pc ls (.int a1 :: .ref qs :: rest)) :=
  gz_user0 hC.2.2.2.2.2.2.2.1 hI (va_runSU (As := [.int a1]) (rest := rest) (Exists.choose_spec (mo_at hC.2.2.2.2.2.2.1 (ci := 16) rfl)) ⟨hC.1, hC.2.1, hC.2.2.1, hC.2.2.2.1, hC.2.2.2.2.1⟩ (w_sb60_app0 l G ai h0 bt cn fl a1 r1 u1 hz H.size) (va_cwSU 1 hC.2.2.2.2.1 (lw_SU q1675 q2437 q535 q1676 q137 q1677) rfl rfl rfl ⟨by decide, by decide +kernel⟩ ⟨Nat.le_trans hf hC.2.2.2.2.2.2.2.2.1, Nat.le_trans hL hC.2.2.2.2.2.2.2.2.2.1⟩) ⟨gz_blind, (va_recv hC.2.2.2.2.2.2.1 hI.1 (ci := 16) (q0 := 0) rfl rfl), gz_pre0 hC hZ hI⟩ rfl rfl hsz rfl (lv_room hW) hdg ⟨Nat.le_trans hc0 hC.2.2.2.2.2.2.2.2.2.2.1, Nat.le_trans hs0 hC.2.2.2.2.2.2.2.2.2.2.2⟩) (fun r u H1 locs1 hp hI1 => by obtain ⟨rfl, rfl⟩ := hp; exact kk H1 locs1 hI1)
def f_sb60_len0 (bt : Nat → Int32) (cn : Int32) (fl : Int32) : Option Int32 := some (cn)
set_option maxHeartbeats 4000000 in
theorem w_sb60_len0 (l : Launch) (G : va_G) (ai : Nat → ClassId) {s0 : State} {b0 : Addr} (h0 : mo_S0 s0 b0) {qs qb : Nat} {tl : va_W} (bt : Nat → Int32) (cn : Int32) (fl : Int32) (r0 : Int32) (hF : f_sb60_len0 bt cn fl = some r0) : rd_Met l G ai s0 yJ12_length cJ12_length 1 (some .int) ({ frames := 0, cells := 0, slots := 0, locals := 0 } : Room) [.ref qs] (sb_C ai qs qb 60 bt cn fl ++ tl) (.int r0) := by
  refine gz_body (Qc := fun _ => rd_Q (.int r0)) (fr := fun _ _ => False) (by decide) (Nat.le_of_ble_eq_true rfl) ?_
  intro p e s m args below meth c A ls hC hZ hr hI hl hnm
  have hx := hC.1
  have hb := hC.2.1
  have hl : lv_has ls 1 [(0, .ref qs)] := hl
  show W p l e _ s m args below meth c s.heap [] 0 0 (MQ below (rd_Q (.int r0)) args s 0 0 (fun _ => False)) (F0 m 0 ls [])
  rw [f_sb60_len0] at hF
  refine lv_aload_n hx hb dJ12_length_0 rfl (lv_at hl 0 rfl) ?_
  refine sb60_J12_g_sb_count hC h0 hZ hI dJ12_length_1 ?_
  have hF := Option.some.inj hF
  subst hF
  exact rd_iret hC hr rfl dJ12_length_4
theorem k_J13_sb60_len0 {p : Program} {l : Launch} {e : Env} {R : Room} {s s0 : State} {b0 : Addr} {m : MethodId} {args : Array Value} {below : List Frame} {meth : Method} {c : Code} {H : Heap} {locs : List Loc} {cells slots : Nat} {Q : State → Prop} {pc : Nat} {ls : Array Slot} {rest : List Value} {G : va_G} {ai : Nat → ClassId} {A : Nat → Prop} {cc : ByteArray} {nL f L kc ks : Nat} {qs qb : Nat} {tl : va_W} {bt : Nat → Int32} {cn : Int32} {fl : Int32}  {r1 : Int32} (hC : mo_C p R s m args meth c G ai A RJ13 cc nL f L kc ks) (h0 : mo_S0 s0 b0) (hZ : mo_Z s0 A s) (hI : mo_I G A s.heap (sb_C ai qs qb 60 bt cn fl ++ tl) H locs) (hz : f_sb60_len0 bt cn fl = some r1) (hf : 0 + 1 ≤ f) (hL : 8 + (1 + 11) + 0 ≤ L) (hsz : ls.size = nL) (hW : (rest.map fun v => v.category).sum ≤ 8) (hdg : decode cc pc = .ok (.invokespecial 343, 3)) (kk : W p l e R s m args below meth c H locs cells slots Q (F0 m (pc + 3) ls (.int r1 :: rest))) (hc0 : cells ≤ kc := by first | exact Nat.zero_le _ | exact Nat.le_of_ble_eq_true rfl | assumption | omega) (hs0 : slots ≤ ks := by first | exact Nat.zero_le _ | exact Nat.le_of_ble_eq_true rfl | assumption | omega) : W p l e R s m args below meth c H locs cells slots Q (F0 m pc ls (.ref qs :: rest)) :=
  rd_use (va_runSU (As := []) (rest := rest) (Exists.choose_spec (mo_at hC.2.2.2.2.2.2.1 (ci := 16) rfl)) ⟨hC.1, hC.2.1, hC.2.2.1, hC.2.2.2.1, hC.2.2.2.2.1⟩ (w_sb60_len0 l G ai h0 bt cn fl r1 hz H.size) (va_cwSU 0 hC.2.2.2.2.1 (lw_SU q1539 q1535 q535 q1534 q137 q1540) rfl rfl rfl ⟨by decide, by decide +kernel⟩ ⟨Nat.le_trans hf hC.2.2.2.2.2.2.2.2.1, Nat.le_trans hL hC.2.2.2.2.2.2.2.2.2.1⟩) ⟨gz_blind, (va_recv hC.2.2.2.2.2.2.1 hI.1 (ci := 16) (q0 := 0) rfl rfl), gz_pre0 hC hZ hI⟩ rfl rfl hsz rfl (lv_room hW) hdg ⟨Nat.le_trans hc0 hC.2.2.2.2.2.2.2.2.2.2.1, Nat.le_trans hs0 hC.2.2.2.2.2.2.2.2.2.2.2⟩) kk
def f_sb60_chr0 (bt : Nat → Int32) (cn : Int32) (fl : Int32) (a1 : Int32) : Option Int32 := lt ((p_mmin (cn) ((60 : Int32) >>> (0 &&& 31)))) (fun x4_1 => ov (f_nw_chk a1 x4_1) (fun r2 => gd (gi a1 60) (gd (gc ((((bt a1.toNatClampNeg) &&& 255).toUInt32 % 65536).toInt32)) (some ((((bt a1.toNatClampNeg) &&& 255).toUInt32 % 65536).toInt32)))))
set_option maxHeartbeats 4000000 in
theorem w_sb60_chr0 (l : Launch) (G : va_G) (ai : Nat → ClassId) {s0 : State} {b0 : Addr} (h0 : mo_S0 s0 b0) {qs qb : Nat} {tl : va_W} (bt : Nat → Int32) (cn : Int32) (fl : Int32) (a1 : Int32) (r0 : Int32) (hF : f_sb60_chr0 bt cn fl a1 = some r0) : rd_Met l G ai s0 yJ12_charAt cJ12_charAt 5 (some .char) ({ frames := 2, cells := 0, slots := 0, locals := 43 } : Room) [.ref qs, .int a1] (sb_C ai qs qb 60 bt cn fl ++ tl) (.int r0) := by
  refine gz_body (Qc := fun _ => rd_Q (.int r0)) (fr := fun _ _ => False) (by decide) (Nat.le_of_ble_eq_true rfl) ?_
  intro p e s m args below meth c A ls hC hZ hr hI hl hnm
  have hx := hC.1
  have hb := hC.2.1
  have hl : lv_has ls 5 [(0, .ref qs), (1, .int a1)] := hl
  show W p l e _ s m args below meth c s.heap [] 0 0 (MQ below (rd_Q (.int r0)) args s 0 0 (fun _ => False)) (F0 m 0 ls [])
  rw [f_sb60_chr0] at hF
  refine lv_aload_n hx hb dJ12_charAt_0 rfl (lv_at hl 0 rfl) ?_
  refine sb60_J12_g_sb_coder hC h0 hZ hI dJ12_charAt_1 ?_
  refine mo_ist (lv' := [(2, .int 0), (0, .ref qs), (1, .int a1)]) hx hb rfl dJ12_charAt_4 rfl hl (by decide) rfl (fun ls hl => ?_)
  refine lv_aload_n hx hb dJ12_charAt_5 rfl (lv_at hl 1 rfl) ?_
  refine sb60_J12_g_sb_value hC h0 hZ hI dJ12_charAt_6 ?_
  refine lv_astore_n (lv' := [(3, .ref qb), (2, .int 0), (0, .ref qs), (1, .int a1)]) hx hb dJ12_charAt_9 rfl hl (by decide) rfl (fun ls hl => ?_)
  refine lv_aload_n hx hb dJ12_charAt_10 rfl (lv_at hl 2 rfl) ?_
  refine sb60_J12_g_sb_count hC h0 hZ hI dJ12_charAt_11 ?_
  refine lv_aload_n hx hb dJ12_charAt_14 rfl (lv_at hl 0 rfl) ?_
  refine sb60_n_sbb hC hI dJ12_charAt_15 ?_
  refine lv_iload_n hx hb dJ12_charAt_16 rfl (lv_at hl 1 rfl) ?_
  refine lv_ishr hx hb dJ12_charAt_17 ?_
  refine mo_min (mo_CN hC) q1722 (Nat.le_of_ble_eq_true rfl) (Nat.le_of_ble_eq_true rfl) hl.1 (Nat.le_of_ble_eq_true rfl) dJ12_charAt_18 ?_
  obtain ⟨x4_1, hx4_1, hF⟩ := lt_some hF
  refine mo_ist4 (lv' := [(4, .int x4_1), (3, .ref qb), (2, .int 0), (0, .ref qs), (1, .int a1)]) hx hb hx4_1 dJ12_charAt_21 hl (by decide) rfl (fun ls hl => ?_)
  refine lv_iload_n hx hb dJ12_charAt_23 rfl (lv_at hl 4 rfl) ?_
  refine lv_iload hx hb dJ12_charAt_24 (lv_at hl 0 rfl) ?_
  obtain ⟨r2, hz3, hF⟩ := ov_some hF
  refine k_J12_nw_chk hC h0 hZ hI hz3 (Nat.le_of_ble_eq_true rfl) (Nat.le_of_ble_eq_true rfl) hl.1 (Nat.le_of_ble_eq_true rfl) dJ12_charAt_26 ?_
  refine lv_iload_n hx hb dJ12_charAt_29 rfl (lv_at hl 2 rfl) ?_
  refine lv_if_ne (tgt := 42) hx hb dJ12_charAt_30 (by decide) (fun h9 => ?_) (fun h9 => ?_)
  · exact absurd h9 (by decide)
  · refine lv_aload_n hx hb dJ12_charAt_33 rfl (lv_at hl 1 rfl) ?_
    refine lv_iload_n hx hb dJ12_charAt_34 rfl (lv_at hl 4 rfl) ?_
    obtain ⟨hg4, hF⟩ := gd_some hF
    refine sb60_l_sbb hC hI hg4 dJ12_charAt_35 ?_
    refine lv_sipush (v := 255) hx hb dJ12_charAt_36 (by decide) ?_
    refine lv_iand hx hb dJ12_charAt_39 ?_
    refine lv_i2c hx hb dJ12_charAt_40 rfl ?_
    obtain ⟨hg, hF⟩ := gd_some hF
    have hF := Option.some.inj hF
    subst hF
    exact rd_iret hC hr (gc_n hg) dJ12_charAt_41
theorem k_J13_sb60_chr0 {p : Program} {l : Launch} {e : Env} {R : Room} {s s0 : State} {b0 : Addr} {m : MethodId} {args : Array Value} {below : List Frame} {meth : Method} {c : Code} {H : Heap} {locs : List Loc} {cells slots : Nat} {Q : State → Prop} {pc : Nat} {ls : Array Slot} {rest : List Value} {G : va_G} {ai : Nat → ClassId} {A : Nat → Prop} {cc : ByteArray} {nL f L kc ks : Nat} {qs qb : Nat} {tl : va_W} {bt : Nat → Int32} {cn : Int32} {fl : Int32} {a1 : Int32}  {r1 : Int32} (hC : mo_C p R s m args meth c G ai A RJ13 cc nL f L kc ks) (h0 : mo_S0 s0 b0) (hZ : mo_Z s0 A s) (hI : mo_I G A s.heap (sb_C ai qs qb 60 bt cn fl ++ tl) H locs) (hz : f_sb60_chr0 bt cn fl a1 = some r1) (hf : 2 + 1 ≤ f) (hL : 8 + (5 + 11) + 43 ≤ L) (hsz : ls.size = nL) (hW : (rest.map fun v => v.category).sum ≤ 8) (hdg : decode cc pc = .ok (.invokespecial 329, 3)) (kk : W p l e R s m args below meth c H locs cells slots Q (F0 m (pc + 3) ls (.int r1 :: rest))) (hc0 : cells ≤ kc := by first | exact Nat.zero_le _ | exact Nat.le_of_ble_eq_true rfl | assumption | omega) (hs0 : slots ≤ ks := by first | exact Nat.zero_le _ | exact Nat.le_of_ble_eq_true rfl | assumption | omega) : W p l e R s m args below meth c H locs cells slots Q (F0 m pc ls (.int a1 :: .ref qs :: rest)) :=
  rd_use (va_runSU (As := [.int a1]) (rest := rest) (Exists.choose_spec (mo_at hC.2.2.2.2.2.2.1 (ci := 16) rfl)) ⟨hC.1, hC.2.1, hC.2.2.1, hC.2.2.2.1, hC.2.2.2.2.1⟩ (w_sb60_chr0 l G ai h0 bt cn fl a1 r1 hz H.size) (va_cwSU 1 hC.2.2.2.2.1 (lw_SU q1719 q2438 q535 q1720 q137 q1721) rfl rfl rfl ⟨by decide, by decide +kernel⟩ ⟨Nat.le_trans hf hC.2.2.2.2.2.2.2.2.1, Nat.le_trans hL hC.2.2.2.2.2.2.2.2.2.1⟩) ⟨gz_blind, (va_recv hC.2.2.2.2.2.2.1 hI.1 (ci := 16) (q0 := 0) rfl rfl), gz_pre0 hC hZ hI⟩ rfl rfl hsz rfl (lv_room hW) hdg ⟨Nat.le_trans hc0 hC.2.2.2.2.2.2.2.2.2.2.1, Nat.le_trans hs0 hC.2.2.2.2.2.2.2.2.2.2.2⟩) kk
def f_sb60_set0 (bt : Nat → Int32) (cn : Int32) (fl : Int32) (a1 : Int32) : Option ((Int32 × (Nat → Int32) × Int32 × Int32)) := gd (decide (0 ≤ a1)) (ov (f_sb60_ens bt cn fl a1) (fun r3 => lj (fun (bt5 : Nat → Int32) (cn6 : Int32) (fl7 : Int32) => lt (a1) (fun cn9 => some (0, (bt5, cn9, fl7)))) (fun j76_7 => gd (decide (a1 ≤ (cn))) (if (cn) ≤ a1 then (j76_7 bt cn fl) else (lt (1) (fun fl13 => j76_7 bt cn fl13))))))
set_option maxHeartbeats 4000000 in
theorem w_sb60_set0 (l : Launch) (G : va_G) (ai : Nat → ClassId) {s0 : State} {b0 : Addr} (h0 : mo_S0 s0 b0) {qs qb : Nat} {tl : va_W} (bt : Nat → Int32) (cn : Int32) (fl : Int32) (a1 : Int32) (r0 : Int32) (u0 : (Nat → Int32) × Int32 × Int32) (hF : f_sb60_set0 bt cn fl a1 = some (r0, u0)) : gz_Mv l G ai s0 (fun (u : (Nat → Int32) × Int32 × Int32) => (sb_C ai qs qb 60 u.1 u.2.1 u.2.2 ++ tl)) yJ12_setLength cJ12_setLength 2 ({ frames := 1, cells := 0, slots := 0, locals := 22 } : Room) [.ref qs, .int a1] (sb_C ai qs qb 60 bt cn fl ++ tl) (fun (u : (Nat → Int32) × Int32 × Int32) => u = u0) 0 0 := by
  refine gz_body (Qc := fun A => va_Qv (fun (u : (Nat → Int32) × Int32 × Int32) => u = u0) (gw_E G ai (fun (u : (Nat → Int32) × Int32 × Int32) => (sb_C ai qs qb 60 u.1 u.2.1 u.2.2 ++ tl)) A) A) (fr := fun A => A) (by decide) (Nat.le_of_ble_eq_true rfl) ?_
  intro p e s m args below meth c A ls hC hZ hr hI hl hnm
  have hx := hC.1
  have hb := hC.2.1
  have hl : lv_has ls 2 [(0, .ref qs), (1, .int a1)] := hl
  show W p l e _ s m args below meth c s.heap [] 0 0 (MQ below (va_Qv (fun (u : (Nat → Int32) × Int32 × Int32) => u = u0) (gw_E G ai (fun (u : (Nat → Int32) × Int32 × Int32) => (sb_C ai qs qb 60 u.1 u.2.1 u.2.2 ++ tl)) A) A) args s 0 0 A) (F0 m 0 ls [])
  rw [f_sb60_set0] at hF
  refine lv_iload_n hx hb dJ12_setLength_0 rfl (lv_at hl 1 rfl) ?_
  obtain ⟨hg2, hF⟩ := gd_some hF
  have c1 := of_decide_eq_true hg2
  refine lv_if_ge (tgt := 13) hx hb dJ12_setLength_1 (by decide) (fun h9 => ?_) (fun h9 => ?_)
  · refine lv_aload_n hx hb dJ12_setLength_13 rfl (lv_at hl 0 rfl) ?_
    refine lv_iload_n hx hb dJ12_setLength_14 rfl (lv_at hl 1 rfl) ?_
    obtain ⟨r3, hz4, hF⟩ := ov_some hF
    refine k_J12_sb60_ens hC h0 hZ hI hz4 (Nat.le_of_ble_eq_true rfl) (Nat.le_of_ble_eq_true rfl) hl.1 (Nat.le_of_ble_eq_true rfl) dJ12_setLength_15 ?_
    refine lv_aload_n hx hb dJ12_setLength_18 rfl (lv_at hl 0 rfl) ?_
    refine sb60_J12_g_sb_count hC h0 hZ hI dJ12_setLength_19 ?_
    refine lv_iload_n hx hb dJ12_setLength_22 rfl (lv_at hl 1 rfl) ?_
    obtain ⟨j76_7, hj76_7, hF⟩ := lj_some hF
    have J76 : ∀ (bt5 : Nat → Int32) (cn6 : Int32) (fl7 : Int32) (H : Heap) (locs : List Loc) (ls : Array Slot), j76_7 bt5 cn6 fl7 = some (r0, u0) → mo_I G A s.heap (sb_C ai qs qb 60 bt5 cn6 fl7 ++ tl) H locs → lv_has ls 2 [(0, .ref qs), (1, .int a1)] → W p l e ({ frames := 1, cells := 0, slots := 0, locals := 22 } : Room) s m args below meth c H locs 0 0 (MQ below (va_Qv (fun (u : (Nat → Int32) × Int32 × Int32) => u = u0) (gw_E G ai (fun (u : (Nat → Int32) × Int32 × Int32) => (sb_C ai qs qb 60 u.1 u.2.1 u.2.2 ++ tl)) A) A) args s 0 0 A) (F0 m 76 ls []) := by
      intro bt5 cn6 fl7 H locs ls hF hI hl
      rw [hj76_7] at hF
      refine lv_aload_n hx hb dJ12_setLength_76 rfl (lv_at hl 0 rfl) ?_
      refine lv_iload_n hx hb dJ12_setLength_77 rfl (lv_at hl 1 rfl) ?_
      obtain ⟨cn9, hcn9, hF⟩ := lt_some hF
      refine sb60_J12_p_sb_count hC h0 hZ hI hcn9 dJ12_setLength_78 (fun H locs hI => ?_)
      cases hF
      exact W.vret hx hb hr (fun t ht hW => ⟨⟨_, rfl, rfl, by rw [ht]; exact hI.1, va_K.moved hW.alike hC.2.2.2.2.2.2.1, hI.2.1⟩, hI.2.2.F ht⟩) hI.2.2.2.2 dJ12_setLength_81 hC.2.2.2.2.2.1
    obtain ⟨hg11, hF⟩ := gd_some hF
    have c10 := of_decide_eq_true hg11
    refine lv_icmp_ge (tgt := 63) hx hb dJ12_setLength_23 (by decide) (fun h9 => ?_) (fun h9 => ?_)
    · refine lv_aload_n hx hb dJ12_setLength_63 rfl (lv_at hl 0 rfl) ?_
      refine sb60_J12_g_sb_count hC h0 hZ hI dJ12_setLength_64 ?_
      refine lv_iload_n hx hb dJ12_setLength_67 rfl (lv_at hl 1 rfl) ?_
      refine lv_icmp_le (tgt := 76) hx hb dJ12_setLength_68 (by decide) (fun c12 => ?_) (fun c12 => ?_)
      · have hF := if_t hF c12
        exact J76 _ _ _ _ _ _ hF hI (lv_sub hl [0, 1] rfl)
      · have hF := if_f hF c12
        refine lv_aload_n hx hb dJ12_setLength_71 rfl (lv_at hl 0 rfl) ?_
        refine lv_iconst (v := 1) hx hb dJ12_setLength_72 (by decide) ?_
        obtain ⟨fl13, hfl13, hF⟩ := lt_some hF
        refine sb60_J12_p_sb_maybeLatin1 hC h0 hZ hI (by decide) hfl13 dJ12_setLength_73 (fun H locs hI => ?_)
        exact J76 _ _ _ _ _ _ hF hI (lv_sub hl [0, 1] rfl)
    · exact absurd c10 h9
  · exact absurd c1 h9
theorem k_J13_sb60_set0 {p : Program} {l : Launch} {e : Env} {R : Room} {s s0 : State} {b0 : Addr} {m : MethodId} {args : Array Value} {below : List Frame} {meth : Method} {c : Code} {H : Heap} {locs : List Loc} {cells slots : Nat} {Q : State → Prop} {pc : Nat} {ls : Array Slot} {rest : List Value} {G : va_G} {ai : Nat → ClassId} {A : Nat → Prop} {cc : ByteArray} {nL f L kc ks : Nat} {qs qb : Nat} {tl : va_W} {bt : Nat → Int32} {cn : Int32} {fl : Int32} {a1 : Int32}  {r1 : Int32} {u1 : (Nat → Int32) × Int32 × Int32} (hC : mo_C p R s m args meth c G ai A RJ13 cc nL f L kc ks) (h0 : mo_S0 s0 b0) (hZ : mo_Z s0 A s) (hI : mo_I G A s.heap (sb_C ai qs qb 60 bt cn fl ++ tl) H locs) (hz : f_sb60_set0 bt cn fl a1 = some (r1, u1)) (hf : 1 + 1 ≤ f) (hL : 8 + (2 + 11) + 22 ≤ L) (hsz : ls.size = nL) (hW : (rest.map fun v => v.category).sum ≤ 8) (hdg : decode cc pc = .ok (.invokespecial 333, 3)) (kk : ∀ (H1 : Heap) (locs1 : List Loc), mo_I G A s.heap (sb_C ai qs qb 60 u1.1 u1.2.1 u1.2.2 ++ tl) H1 locs1 → W p l e R s m args below meth c H1 locs1 cells slots Q (F0 m (pc + 3) ls (rest))) (hc0 : cells + 0 ≤ kc := by first | exact Nat.zero_le _ | exact Nat.le_of_ble_eq_true rfl | assumption | omega) (hs0 : slots + 0 ≤ ks := by first | exact Nat.zero_le _ | exact Nat.le_of_ble_eq_true rfl | assumption | omega) : W p l e R s m args below meth c H locs cells slots Q (F0 m pc ls (.int a1 :: .ref qs :: rest)) :=
  gz_usev0 hC.2.2.2.2.2.2.2.1 hI (va_runSU (As := [.int a1]) (rest := rest) (Exists.choose_spec (mo_at hC.2.2.2.2.2.2.1 (ci := 16) rfl)) ⟨hC.1, hC.2.1, hC.2.2.1, hC.2.2.2.1, hC.2.2.2.2.1⟩ (w_sb60_set0 l G ai h0 bt cn fl a1 r1 u1 hz H.size) (va_cwSU 1 hC.2.2.2.2.1 (lw_SU q1793 q2439 q535 q1794 q137 q1795) rfl rfl rfl ⟨by decide, by decide +kernel⟩ ⟨Nat.le_trans hf hC.2.2.2.2.2.2.2.2.1, Nat.le_trans hL hC.2.2.2.2.2.2.2.2.2.1⟩) ⟨gz_blind, (va_recv hC.2.2.2.2.2.2.1 hI.1 (ci := 16) (q0 := 0) rfl rfl), gz_pre0 hC hZ hI⟩ rfl rfl hsz rfl (lv_room hW) hdg ⟨Nat.le_trans hc0 hC.2.2.2.2.2.2.2.2.2.2.1, Nat.le_trans hs0 hC.2.2.2.2.2.2.2.2.2.2.2⟩) (fun u H1 locs1 hp hI1 => by cases hp; exact kk H1 locs1 hI1)
def f_sb60_app (bt : Nat → Int32) (cn : Int32) (fl : Int32) (a1 : Int32) : Option ((Int32 × (Nat → Int32) × Int32 × Int32)) := ob (f_sb60_app0 bt cn fl a1) (fun r1 u2 => some (0, (u2.1, u2.2.1, u2.2.2)))
set_option maxHeartbeats 4000000 in
theorem w_sb60_app (l : Launch) (G : va_G) (ai : Nat → ClassId) {s0 : State} {b0 : Addr} (h0 : mo_S0 s0 b0) {qs qb : Nat} {tl : va_W} (bt : Nat → Int32) (cn : Int32) (fl : Int32) (a1 : Int32) (r0 : Int32) (u0 : (Nat → Int32) × Int32 × Int32) (hF : f_sb60_app bt cn fl a1 = some (r0, u0)) : gz_Mr l G ai s0 (fun (u : (Nat → Int32) × Int32 × Int32) => (sb_C ai qs qb 60 u.1 u.2.1 u.2.2 ++ tl)) yJ13_append_2 cJ13_append_2 2 (some (.object "java/lang/StringBuilder")) ({ frames := 2, cells := 0, slots := 0, locals := 43 } : Room) [.ref qs, .int a1] (sb_C ai qs qb 60 bt cn fl ++ tl) (fun (ra : Nat) (u : (Nat → Int32) × Int32 × Int32) => ra = qs ∧ u = u0) 0 0 := by
  refine gz_body (Qc := fun A => va_Qr (S := (Nat → Int32) × Int32 × Int32) (fun _ => True) (fun u ra t => (ra = qs ∧ u = u0) ∧ gw_E G ai (fun (u : (Nat → Int32) × Int32 × Int32) => (sb_C ai qs qb 60 u.1 u.2.1 u.2.2 ++ tl)) A u t) A) (fr := fun A => A) (by decide) (Nat.le_of_ble_eq_true rfl) ?_
  intro p e s m args below meth c A ls hC hZ hr hI hl hnm
  have hx := hC.1
  have hb := hC.2.1
  have hl : lv_has ls 2 [(0, .ref qs), (1, .int a1)] := hl
  show W p l e _ s m args below meth c s.heap [] 0 0 (MQ below (va_Qr (S := (Nat → Int32) × Int32 × Int32) (fun _ => True) (fun u ra t => (ra = qs ∧ u = u0) ∧ gw_E G ai (fun (u : (Nat → Int32) × Int32 × Int32) => (sb_C ai qs qb 60 u.1 u.2.1 u.2.2 ++ tl)) A u t) A) args s 0 0 A) (F0 m 0 ls [])
  rw [f_sb60_app] at hF
  refine lv_aload_n hx hb dJ13_append_2_0 rfl (lv_at hl 0 rfl) ?_
  refine lv_iload_n hx hb dJ13_append_2_1 rfl (lv_at hl 1 rfl) ?_
  obtain ⟨r1, u2, hz3, hF⟩ := ob_some hF
  refine k_J13_sb60_app0 hC h0 hZ hI hz3 (Nat.le_of_ble_eq_true rfl) (Nat.le_of_ble_eq_true rfl) hl.1 (Nat.le_of_ble_eq_true rfl) dJ13_append_2_2 (fun H locs hI => ?_)
  refine lv_pop hx hb dJ13_append_2_5 rfl ?_
  refine lv_aload_n hx hb dJ13_append_2_6 rfl (lv_at hl 0 rfl) ?_
  cases hF
  exact W.aret hx hb hr (Or.inl ⟨_, rfl⟩) (Or.inr ⟨_, rfl⟩) (fun t ht hW => ⟨⟨_, _, rfl, trivial, ⟨rfl, rfl⟩, by rw [ht]; exact hI.1, va_K.moved hW.alike hC.2.2.2.2.2.2.1, hI.2.1⟩, hI.2.2.F ht⟩) hI.2.2.2.2 dJ13_append_2_7 hC.2.2.2.2.2.1
theorem k_X0_sb60_app {p : Program} {l : Launch} {e : Env} {R : Room} {s s0 : State} {b0 : Addr} {m : MethodId} {args : Array Value} {below : List Frame} {meth : Method} {c : Code} {H : Heap} {locs : List Loc} {cells slots : Nat} {Q : State → Prop} {pc : Nat} {ls : Array Slot} {rest : List Value} {G : va_G} {ai : Nat → ClassId} {A : Nat → Prop} {cc : ByteArray} {nL f L kc ks : Nat} {qs qb : Nat} {tl : va_W} {bt : Nat → Int32} {cn : Int32} {fl : Int32} {a1 : Int32}  {r1 : Int32} {u1 : (Nat → Int32) × Int32 × Int32} (hC : mo_C p R s m args meth c G ai A RX0 cc nL f L kc ks) (h0 : mo_S0 s0 b0) (hZ : mo_Z s0 A s) (hI : mo_I G A s.heap (sb_C ai qs qb 60 bt cn fl ++ tl) H locs) (hz : f_sb60_app bt cn fl a1 = some (r1, u1)) (hf : 2 + 1 ≤ f) (hL : 8 + (2 + 11) + 43 ≤ L) (hsz : ls.size = nL) (hW : (rest.map fun v => v.category).sum ≤ 8) (hdg : decode cc pc = .ok (.invokevirtual 418, 3)) (kk : ∀ (H1 : Heap) (locs1 : List Loc), mo_I G A s.heap (sb_C ai qs qb 60 u1.1 u1.2.1 u1.2.2 ++ tl) H1 locs1 → W p l e R s m args below meth c H1 locs1 cells slots Q (F0 m (pc + 3) ls (.ref (qs) :: rest))) (hc0 : cells + 0 ≤ kc := by first | exact Nat.zero_le _ | exact Nat.le_of_ble_eq_true rfl | assumption | omega) (hs0 : slots + 0 ≤ ks := by first | exact Nat.zero_le _ | exact Nat.le_of_ble_eq_true rfl | assumption | omega) : W p l e R s m args below meth c H locs cells slots Q (F0 m pc ls (.int a1 :: .ref qs :: rest)) :=
  gz_user0 hC.2.2.2.2.2.2.2.1 hI (va_runV (As := [.int a1]) (rest := rest) ⟨hC.1, hC.2.1, hC.2.2.1, hC.2.2.2.1, hC.2.2.2.2.1⟩ (w_sb60_app l G ai h0 bt cn fl a1 r1 u1 hz H.size) (cwV 1 hC.2.2.2.2.1 (lw_V q1671 q1672 q1673 q138 q1674) rfl rfl rfl (by decide +kernel) ⟨Nat.le_trans hf hC.2.2.2.2.2.2.2.2.1, Nat.le_trans hL hC.2.2.2.2.2.2.2.2.2.1⟩) ⟨gz_blind, (va_recv hC.2.2.2.2.2.2.1 hI.1 (ci := 16) (q0 := 0) rfl rfl), gz_pre0 hC hZ hI⟩ rfl rfl hsz rfl (lv_room hW) hdg ⟨Nat.le_trans hc0 hC.2.2.2.2.2.2.2.2.2.2.1, Nat.le_trans hs0 hC.2.2.2.2.2.2.2.2.2.2.2⟩) (fun r u H1 locs1 hp hI1 => by obtain ⟨rfl, rfl⟩ := hp; exact kk H1 locs1 hI1)
def f_sb60_len (bt : Nat → Int32) (cn : Int32) (fl : Int32) : Option Int32 := ov (f_sb60_len0 bt cn fl) (fun r1 => some r1)
set_option maxHeartbeats 4000000 in
theorem w_sb60_len (l : Launch) (G : va_G) (ai : Nat → ClassId) {s0 : State} {b0 : Addr} (h0 : mo_S0 s0 b0) {qs qb : Nat} {tl : va_W} (bt : Nat → Int32) (cn : Int32) (fl : Int32) (r0 : Int32) (hF : f_sb60_len bt cn fl = some r0) : rd_Met l G ai s0 yJ13_length cJ13_length 1 (some .int) ({ frames := 1, cells := 0, slots := 0, locals := 20 } : Room) [.ref qs] (sb_C ai qs qb 60 bt cn fl ++ tl) (.int r0) := by
  refine gz_body (Qc := fun _ => rd_Q (.int r0)) (fr := fun _ _ => False) (by decide) (Nat.le_of_ble_eq_true rfl) ?_
  intro p e s m args below meth c A ls hC hZ hr hI hl hnm
  have hx := hC.1
  have hb := hC.2.1
  have hl : lv_has ls 1 [(0, .ref qs)] := hl
  show W p l e _ s m args below meth c s.heap [] 0 0 (MQ below (rd_Q (.int r0)) args s 0 0 (fun _ => False)) (F0 m 0 ls [])
  rw [f_sb60_len] at hF
  refine lv_aload_n hx hb dJ13_length_0 rfl (lv_at hl 0 rfl) ?_
  obtain ⟨r1, hz2, hF⟩ := ov_some hF
  refine k_J13_sb60_len0 hC h0 hZ hI hz2 (Nat.le_of_ble_eq_true rfl) (Nat.le_of_ble_eq_true rfl) hl.1 (Nat.le_of_ble_eq_true rfl) dJ13_length_1 ?_
  have hF := Option.some.inj hF
  subst hF
  exact rd_iret hC hr rfl dJ13_length_4
theorem k_X0_sb60_len {p : Program} {l : Launch} {e : Env} {R : Room} {s s0 : State} {b0 : Addr} {m : MethodId} {args : Array Value} {below : List Frame} {meth : Method} {c : Code} {H : Heap} {locs : List Loc} {cells slots : Nat} {Q : State → Prop} {pc : Nat} {ls : Array Slot} {rest : List Value} {G : va_G} {ai : Nat → ClassId} {A : Nat → Prop} {cc : ByteArray} {nL f L kc ks : Nat} {qs qb : Nat} {tl : va_W} {bt : Nat → Int32} {cn : Int32} {fl : Int32}  {r1 : Int32} (hC : mo_C p R s m args meth c G ai A RX0 cc nL f L kc ks) (h0 : mo_S0 s0 b0) (hZ : mo_Z s0 A s) (hI : mo_I G A s.heap (sb_C ai qs qb 60 bt cn fl ++ tl) H locs) (hz : f_sb60_len bt cn fl = some r1) (hf : 1 + 1 ≤ f) (hL : 8 + (1 + 11) + 20 ≤ L) (hsz : ls.size = nL) (hW : (rest.map fun v => v.category).sum ≤ 8) (hdg : decode cc pc = .ok (.invokevirtual 415, 3)) (kk : W p l e R s m args below meth c H locs cells slots Q (F0 m (pc + 3) ls (.int r1 :: rest))) (hc0 : cells ≤ kc := by first | exact Nat.zero_le _ | exact Nat.le_of_ble_eq_true rfl | assumption | omega) (hs0 : slots ≤ ks := by first | exact Nat.zero_le _ | exact Nat.le_of_ble_eq_true rfl | assumption | omega) : W p l e R s m args below meth c H locs cells slots Q (F0 m pc ls (.ref qs :: rest)) :=
  rd_use (va_runV (As := []) (rest := rest) ⟨hC.1, hC.2.1, hC.2.2.1, hC.2.2.2.1, hC.2.2.2.2.1⟩ (w_sb60_len l G ai h0 bt cn fl r1 hz H.size) (cwV 0 hC.2.2.2.2.1 (lw_V q1670 q1537 q2436 q138 q1538) rfl rfl rfl (by decide +kernel) ⟨Nat.le_trans hf hC.2.2.2.2.2.2.2.2.1, Nat.le_trans hL hC.2.2.2.2.2.2.2.2.2.1⟩) ⟨gz_blind, (va_recv hC.2.2.2.2.2.2.1 hI.1 (ci := 16) (q0 := 0) rfl rfl), gz_pre0 hC hZ hI⟩ rfl rfl hsz rfl (lv_room hW) hdg ⟨Nat.le_trans hc0 hC.2.2.2.2.2.2.2.2.2.2.1, Nat.le_trans hs0 hC.2.2.2.2.2.2.2.2.2.2.2⟩) kk
def f_sb60_chr (bt : Nat → Int32) (cn : Int32) (fl : Int32) (a1 : Int32) : Option Int32 := ov (f_sb60_chr0 bt cn fl a1) (fun r1 => gd (gc r1) (some r1))
set_option maxHeartbeats 4000000 in
theorem w_sb60_chr (l : Launch) (G : va_G) (ai : Nat → ClassId) {s0 : State} {b0 : Addr} (h0 : mo_S0 s0 b0) {qs qb : Nat} {tl : va_W} (bt : Nat → Int32) (cn : Int32) (fl : Int32) (a1 : Int32) (r0 : Int32) (hF : f_sb60_chr bt cn fl a1 = some r0) : rd_Met l G ai s0 yJ13_charAt cJ13_charAt 2 (some .char) ({ frames := 3, cells := 0, slots := 0, locals := 67 } : Room) [.ref qs, .int a1] (sb_C ai qs qb 60 bt cn fl ++ tl) (.int r0) := by
  refine gz_body (Qc := fun _ => rd_Q (.int r0)) (fr := fun _ _ => False) (by decide) (Nat.le_of_ble_eq_true rfl) ?_
  intro p e s m args below meth c A ls hC hZ hr hI hl hnm
  have hx := hC.1
  have hb := hC.2.1
  have hl : lv_has ls 2 [(0, .ref qs), (1, .int a1)] := hl
  show W p l e _ s m args below meth c s.heap [] 0 0 (MQ below (rd_Q (.int r0)) args s 0 0 (fun _ => False)) (F0 m 0 ls [])
  rw [f_sb60_chr] at hF
  refine lv_aload_n hx hb dJ13_charAt_0 rfl (lv_at hl 0 rfl) ?_
  refine lv_iload_n hx hb dJ13_charAt_1 rfl (lv_at hl 1 rfl) ?_
  obtain ⟨r1, hz2, hF⟩ := ov_some hF
  refine k_J13_sb60_chr0 hC h0 hZ hI hz2 (Nat.le_of_ble_eq_true rfl) (Nat.le_of_ble_eq_true rfl) hl.1 (Nat.le_of_ble_eq_true rfl) dJ13_charAt_2 ?_
  obtain ⟨hg, hF⟩ := gd_some hF
  have hF := Option.some.inj hF
  subst hF
  exact rd_iret hC hr (gc_n hg) dJ13_charAt_5
theorem k_X0_sb60_chr {p : Program} {l : Launch} {e : Env} {R : Room} {s s0 : State} {b0 : Addr} {m : MethodId} {args : Array Value} {below : List Frame} {meth : Method} {c : Code} {H : Heap} {locs : List Loc} {cells slots : Nat} {Q : State → Prop} {pc : Nat} {ls : Array Slot} {rest : List Value} {G : va_G} {ai : Nat → ClassId} {A : Nat → Prop} {cc : ByteArray} {nL f L kc ks : Nat} {qs qb : Nat} {tl : va_W} {bt : Nat → Int32} {cn : Int32} {fl : Int32} {a1 : Int32}  {r1 : Int32} (hC : mo_C p R s m args meth c G ai A RX0 cc nL f L kc ks) (h0 : mo_S0 s0 b0) (hZ : mo_Z s0 A s) (hI : mo_I G A s.heap (sb_C ai qs qb 60 bt cn fl ++ tl) H locs) (hz : f_sb60_chr bt cn fl a1 = some r1) (hf : 3 + 1 ≤ f) (hL : 8 + (2 + 11) + 67 ≤ L) (hsz : ls.size = nL) (hW : (rest.map fun v => v.category).sum ≤ 8) (hdg : decode cc pc = .ok (.invokevirtual 425, 3)) (kk : W p l e R s m args below meth c H locs cells slots Q (F0 m (pc + 3) ls (.int r1 :: rest))) (hc0 : cells ≤ kc := by first | exact Nat.zero_le _ | exact Nat.le_of_ble_eq_true rfl | assumption | omega) (hs0 : slots ≤ ks := by first | exact Nat.zero_le _ | exact Nat.le_of_ble_eq_true rfl | assumption | omega) : W p l e R s m args below meth c H locs cells slots Q (F0 m pc ls (.int a1 :: .ref qs :: rest)) :=
  rd_use (va_runV (As := [.int a1]) (rest := rest) ⟨hC.1, hC.2.1, hC.2.2.1, hC.2.2.2.1, hC.2.2.2.2.1⟩ (w_sb60_chr l G ai h0 bt cn fl a1 r1 hz H.size) (cwV 1 hC.2.2.2.2.1 (lw_V q1715 q1716 q1717 q138 q1718) rfl rfl rfl (by decide +kernel) ⟨Nat.le_trans hf hC.2.2.2.2.2.2.2.2.1, Nat.le_trans hL hC.2.2.2.2.2.2.2.2.2.1⟩) ⟨gz_blind, (va_recv hC.2.2.2.2.2.2.1 hI.1 (ci := 16) (q0 := 0) rfl rfl), gz_pre0 hC hZ hI⟩ rfl rfl hsz rfl (lv_room hW) hdg ⟨Nat.le_trans hc0 hC.2.2.2.2.2.2.2.2.2.2.1, Nat.le_trans hs0 hC.2.2.2.2.2.2.2.2.2.2.2⟩) kk
def f_sb60_set (bt : Nat → Int32) (cn : Int32) (fl : Int32) (a1 : Int32) : Option ((Int32 × (Nat → Int32) × Int32 × Int32)) := ob (f_sb60_set0 bt cn fl a1) (fun r1 u2 => some (0, (u2.1, u2.2.1, u2.2.2)))
set_option maxHeartbeats 4000000 in
theorem w_sb60_set (l : Launch) (G : va_G) (ai : Nat → ClassId) {s0 : State} {b0 : Addr} (h0 : mo_S0 s0 b0) {qs qb : Nat} {tl : va_W} (bt : Nat → Int32) (cn : Int32) (fl : Int32) (a1 : Int32) (r0 : Int32) (u0 : (Nat → Int32) × Int32 × Int32) (hF : f_sb60_set bt cn fl a1 = some (r0, u0)) : gz_Mv l G ai s0 (fun (u : (Nat → Int32) × Int32 × Int32) => (sb_C ai qs qb 60 u.1 u.2.1 u.2.2 ++ tl)) yJ13_setLength cJ13_setLength 2 ({ frames := 2, cells := 0, slots := 0, locals := 43 } : Room) [.ref qs, .int a1] (sb_C ai qs qb 60 bt cn fl ++ tl) (fun (u : (Nat → Int32) × Int32 × Int32) => u = u0) 0 0 := by
  refine gz_body (Qc := fun A => va_Qv (fun (u : (Nat → Int32) × Int32 × Int32) => u = u0) (gw_E G ai (fun (u : (Nat → Int32) × Int32 × Int32) => (sb_C ai qs qb 60 u.1 u.2.1 u.2.2 ++ tl)) A) A) (fr := fun A => A) (by decide) (Nat.le_of_ble_eq_true rfl) ?_
  intro p e s m args below meth c A ls hC hZ hr hI hl hnm
  have hx := hC.1
  have hb := hC.2.1
  have hl : lv_has ls 2 [(0, .ref qs), (1, .int a1)] := hl
  show W p l e _ s m args below meth c s.heap [] 0 0 (MQ below (va_Qv (fun (u : (Nat → Int32) × Int32 × Int32) => u = u0) (gw_E G ai (fun (u : (Nat → Int32) × Int32 × Int32) => (sb_C ai qs qb 60 u.1 u.2.1 u.2.2 ++ tl)) A) A) args s 0 0 A) (F0 m 0 ls [])
  rw [f_sb60_set] at hF
  refine lv_aload_n hx hb dJ13_setLength_0 rfl (lv_at hl 0 rfl) ?_
  refine lv_iload_n hx hb dJ13_setLength_1 rfl (lv_at hl 1 rfl) ?_
  obtain ⟨r1, u2, hz3, hF⟩ := ob_some hF
  refine k_J13_sb60_set0 hC h0 hZ hI hz3 (Nat.le_of_ble_eq_true rfl) (Nat.le_of_ble_eq_true rfl) hl.1 (Nat.le_of_ble_eq_true rfl) dJ13_setLength_2 (fun H locs hI => ?_)
  cases hF
  exact W.vret hx hb hr (fun t ht hW => ⟨⟨_, rfl, rfl, by rw [ht]; exact hI.1, va_K.moved hW.alike hC.2.2.2.2.2.2.1, hI.2.1⟩, hI.2.2.F ht⟩) hI.2.2.2.2 dJ13_setLength_5 hC.2.2.2.2.2.1
theorem k_X0_sb60_set {p : Program} {l : Launch} {e : Env} {R : Room} {s s0 : State} {b0 : Addr} {m : MethodId} {args : Array Value} {below : List Frame} {meth : Method} {c : Code} {H : Heap} {locs : List Loc} {cells slots : Nat} {Q : State → Prop} {pc : Nat} {ls : Array Slot} {rest : List Value} {G : va_G} {ai : Nat → ClassId} {A : Nat → Prop} {cc : ByteArray} {nL f L kc ks : Nat} {qs qb : Nat} {tl : va_W} {bt : Nat → Int32} {cn : Int32} {fl : Int32} {a1 : Int32}  {r1 : Int32} {u1 : (Nat → Int32) × Int32 × Int32} (hC : mo_C p R s m args meth c G ai A RX0 cc nL f L kc ks) (h0 : mo_S0 s0 b0) (hZ : mo_Z s0 A s) (hI : mo_I G A s.heap (sb_C ai qs qb 60 bt cn fl ++ tl) H locs) (hz : f_sb60_set bt cn fl a1 = some (r1, u1)) (hf : 2 + 1 ≤ f) (hL : 8 + (2 + 11) + 43 ≤ L) (hsz : ls.size = nL) (hW : (rest.map fun v => v.category).sum ≤ 8) (hdg : decode cc pc = .ok (.invokevirtual 489, 3)) (kk : ∀ (H1 : Heap) (locs1 : List Loc), mo_I G A s.heap (sb_C ai qs qb 60 u1.1 u1.2.1 u1.2.2 ++ tl) H1 locs1 → W p l e R s m args below meth c H1 locs1 cells slots Q (F0 m (pc + 3) ls (rest))) (hc0 : cells + 0 ≤ kc := by first | exact Nat.zero_le _ | exact Nat.le_of_ble_eq_true rfl | assumption | omega) (hs0 : slots + 0 ≤ ks := by first | exact Nat.zero_le _ | exact Nat.le_of_ble_eq_true rfl | assumption | omega) : W p l e R s m args below meth c H locs cells slots Q (F0 m pc ls (.int a1 :: .ref qs :: rest)) :=
  gz_usev0 hC.2.2.2.2.2.2.2.1 hI (va_runV (As := [.int a1]) (rest := rest) ⟨hC.1, hC.2.1, hC.2.2.1, hC.2.2.2.1, hC.2.2.2.2.1⟩ (w_sb60_set l G ai h0 bt cn fl a1 r1 u1 hz H.size) (cwV 1 hC.2.2.2.2.1 (lw_V q1789 q1790 q1791 q138 q1792) rfl rfl rfl (by decide +kernel) ⟨Nat.le_trans hf hC.2.2.2.2.2.2.2.2.1, Nat.le_trans hL hC.2.2.2.2.2.2.2.2.2.1⟩) ⟨gz_blind, (va_recv hC.2.2.2.2.2.2.1 hI.1 (ci := 16) (q0 := 0) rfl rfl), gz_pre0 hC hZ hI⟩ rfl rfl hsz rfl (lv_room hW) hdg ⟨Nat.le_trans hc0 hC.2.2.2.2.2.2.2.2.2.2.1, Nat.le_trans hs0 hC.2.2.2.2.2.2.2.2.2.2.2⟩) (fun u H1 locs1 hp hI1 => by cases hp; exact kk H1 locs1 hI1)
theorem sb20_J12_g_sb_value {p : Program} {l : Launch} {e : Env} {R : Room} {s s0 : State} {b0 : Addr} {m : MethodId} {args : Array Value} {below : List Frame} {meth : Method} {c : Code} {H : Heap} {locs : List Loc} {cells slots : Nat} {Q : State → Prop} {pc : Nat} {ls : Array Slot} {rest : List Value} {G : va_G} {ai : Nat → ClassId} {A : Nat → Prop} {cc : ByteArray} {nL f L kc ks : Nat} {qs qb : Nat} {tl : va_W} {bt : Nat → Int32} {cn : Int32} {fl : Int32} (hC : mo_C p R s m args meth c G ai A RJ12 cc nL f L kc ks) (h0 : mo_S0 s0 b0) (hZ : mo_Z s0 A s) (hI : mo_I G A s.heap (sb_C ai qs qb 20 bt cn fl ++ tl) H locs) (hdg : decode cc pc = .ok (.getfield 15, 3)) (kk : W p l e R s m args below meth c H locs cells slots Q (F0 m (pc + 3) ls (.ref (qb) :: rest))) : W p l e R s m args below meth c H locs cells slots Q (F0 m pc ls (.ref (qs) :: rest)) :=
  va_get (D := G) (ci := 16) (C := RJ13) (T := TJ13) (N := 4) hC.1 hC.2.1 hC.2.2.2.2.1 in_J13 hC.2.2.2.1 hC.2.2.2.2.2.2.1 hI.1 0 rfl rfl 0 (by decide) (hC.2.2.2.2.1 _ q522) (fun _ h9 => h9) rfl hdg kk
theorem sb20_n_sbb {own : String} {p : Program} {l : Launch} {e : Env} {R : Room} {s : State} {m : MethodId} {args : Array Value} {below : List Frame} {meth : Method} {c : Code} {H : Heap} {locs : List Loc} {cells slots : Nat} {Q : State → Prop} {pc : Nat} {ls : Array Slot} {rest : List Value} {G : va_G} {ai : Nat → ClassId} {A : Nat → Prop} {cc : ByteArray} {nL f L kc ks : Nat} {qs qb : Nat} {tl : va_W} {bt : Nat → Int32} {cn : Int32} {fl : Int32} (hC : mo_C p R s m args meth c G ai A own cc nL f L kc ks) (hI : mo_I G A s.heap (sb_C ai qs qb 20 bt cn fl ++ tl) H locs) (hdg : decode cc pc = .ok (.arraylength, 1)) (kk : W p l e R s m args below meth c H locs cells slots Q (F0 m (pc + 1) ls (.int 20 :: rest))) : W p l e R s m args below meth c H locs cells slots Q (F0 m pc ls (.ref (qb) :: rest)) :=
  va_alen (v := 20) hC.1 hC.2.1 hC.2.2.2.2.2.2.1 hI.1 1 2 rfl rfl rfl hdg kk
theorem sb20_J12_g_sb_coder {p : Program} {l : Launch} {e : Env} {R : Room} {s s0 : State} {b0 : Addr} {m : MethodId} {args : Array Value} {below : List Frame} {meth : Method} {c : Code} {H : Heap} {locs : List Loc} {cells slots : Nat} {Q : State → Prop} {pc : Nat} {ls : Array Slot} {rest : List Value} {G : va_G} {ai : Nat → ClassId} {A : Nat → Prop} {cc : ByteArray} {nL f L kc ks : Nat} {qs qb : Nat} {tl : va_W} {bt : Nat → Int32} {cn : Int32} {fl : Int32} (hC : mo_C p R s m args meth c G ai A RJ12 cc nL f L kc ks) (h0 : mo_S0 s0 b0) (hZ : mo_Z s0 A s) (hI : mo_I G A s.heap (sb_C ai qs qb 20 bt cn fl ++ tl) H locs) (hdg : decode cc pc = .ok (.getfield 22, 3)) (kk : W p l e R s m args below meth c H locs cells slots Q (F0 m (pc + 3) ls (.int 0 :: rest))) : W p l e R s m args below meth c H locs cells slots Q (F0 m pc ls (.ref (qs) :: rest)) :=
  va_get (D := G) (ci := 16) (C := RJ13) (T := TJ13) (N := 4) hC.1 hC.2.1 hC.2.2.2.2.1 in_J13 hC.2.2.2.1 hC.2.2.2.2.2.2.1 hI.1 0 rfl rfl 1 (by decide) (hC.2.2.2.2.1 _ q523) (fun _ h9 => h9) rfl hdg kk
theorem sb20_J12_g_sb_count {p : Program} {l : Launch} {e : Env} {R : Room} {s s0 : State} {b0 : Addr} {m : MethodId} {args : Array Value} {below : List Frame} {meth : Method} {c : Code} {H : Heap} {locs : List Loc} {cells slots : Nat} {Q : State → Prop} {pc : Nat} {ls : Array Slot} {rest : List Value} {G : va_G} {ai : Nat → ClassId} {A : Nat → Prop} {cc : ByteArray} {nL f L kc ks : Nat} {qs qb : Nat} {tl : va_W} {bt : Nat → Int32} {cn : Int32} {fl : Int32} (hC : mo_C p R s m args meth c G ai A RJ12 cc nL f L kc ks) (h0 : mo_S0 s0 b0) (hZ : mo_Z s0 A s) (hI : mo_I G A s.heap (sb_C ai qs qb 20 bt cn fl ++ tl) H locs) (hdg : decode cc pc = .ok (.getfield 79, 3)) (kk : W p l e R s m args below meth c H locs cells slots Q (F0 m (pc + 3) ls (.int (cn) :: rest))) : W p l e R s m args below meth c H locs cells slots Q (F0 m pc ls (.ref (qs) :: rest)) :=
  va_get (D := G) (ci := 16) (C := RJ13) (T := TJ13) (N := 4) hC.1 hC.2.1 hC.2.2.2.2.1 in_J13 hC.2.2.2.1 hC.2.2.2.2.2.2.1 hI.1 0 rfl rfl 3 (by decide) (hC.2.2.2.2.1 _ q526) (fun _ h9 => h9) rfl hdg kk
theorem sb20_J12_p_sb_count {p : Program} {l : Launch} {e : Env} {R : Room} {s s0 : State} {b0 : Addr} {m : MethodId} {args : Array Value} {below : List Frame} {meth : Method} {c : Code} {H : Heap} {locs : List Loc} {cells slots : Nat} {Q : State → Prop} {pc : Nat} {ls : Array Slot} {rest : List Value} {G : va_G} {ai : Nat → ClassId} {A : Nat → Prop} {cc : ByteArray} {nL f L kc ks : Nat} {qs qb : Nat} {tl : va_W} {bt : Nat → Int32} {cn : Int32} {fl : Int32} {x : Int32} {z1 : Int32} (hC : mo_C p R s m args meth c G ai A RJ12 cc nL f L kc ks) (h0 : mo_S0 s0 b0) (hZ : mo_Z s0 A s) (hI : mo_I G A s.heap (sb_C ai qs qb 20 bt cn fl ++ tl) H locs) (hM : z1 = x) (hdg : decode cc pc = .ok (.putfield 79, 3)) (kk : ∀ (H1 : Heap) (locs1 : List Loc), mo_I G A s.heap (sb_C ai qs qb 20 bt z1 fl ++ tl) H1 locs1 → W p l e R s m args below meth c H1 locs1 cells slots Q (F0 m (pc + 3) ls (rest))) : W p l e R s m args below meth c H locs cells slots Q (F0 m pc ls (.int x :: .ref (qs) :: rest)) := by
  subst z1
  exact va_put (D := G) (ci := 16) (v := .int x) (ty := .int) (C := RJ13) (T := TJ13) (N := 4) hC.1 hC.2.1 hC.2.2.2.2.1 in_J13 tyJ13 tyJ13_ok nmJ13 hC.2.2.2.1 hC.2.2.2.2.2.2.1 hI.1 hI.2.1 hI.2.2 0 rfl rfl 3 (by decide) (hC.2.2.2.2.1 _ q526) (fun _ h9 => h9) rfl (by decide +kernel) rfl rfl (Nat.le_of_ble_eq_true rfl) hdg (fun H locs hP hD hS => kk H locs ⟨hP, hD, hS⟩)
theorem sb20_s_sbb {own : String} {p : Program} {l : Launch} {e : Env} {R : Room} {s : State} {m : MethodId} {args : Array Value} {below : List Frame} {meth : Method} {c : Code} {H : Heap} {locs : List Loc} {cells slots : Nat} {Q : State → Prop} {pc : Nat} {ls : Array Slot} {rest : List Value} {G : va_G} {ai : Nat → ClassId} {A : Nat → Prop} {cc : ByteArray} {nL f L kc ks : Nat} {qs qb : Nat} {tl : va_W} {bt : Nat → Int32} {cn : Int32} {fl : Int32} {j : Int32} {x : Int32} {z1 : Nat → Int32} (hC : mo_C p R s m args meth c G ai A own cc nL f L kc ks) (hI : mo_I G A s.heap (sb_C ai qs qb 20 bt cn fl ++ tl) H locs) (hg : gi j 20 = true) (hn : narrow .byte (.int x) = .int x) (hM : z1 = upd bt j.toNatClampNeg x) (hdg : decode cc pc = .ok (.bastore, 1)) (kk : ∀ (H1 : Heap) (locs1 : List Loc), mo_I G A s.heap (sb_C ai qs qb 20 z1 cn fl ++ tl) H1 locs1 → W p l e R s m args below meth c H1 locs1 cells slots Q (F0 m (pc + 1) ls (rest))) : W p l e R s m args below meth c H locs cells slots Q (F0 m pc ls (.int x :: .int j :: .ref (qb) :: rest)) := by
  subst z1
  have e9 : vp_nar FieldType.byte x = x := by unfold vp_nar; rw [hn]
  exact va_bast hC.1 hC.2.1 hC.2.2.2.2.2.2.1 hI.1 hI.2.1 hI.2.2 1 2 rfl rfl (gi_in hg) hdg (fun H locs hP hD hS => by rw [e9] at hP hD; exact kk H locs ⟨hP, hD, hS⟩)
theorem sb20_l_sbb {own : String} {p : Program} {l : Launch} {e : Env} {R : Room} {s : State} {m : MethodId} {args : Array Value} {below : List Frame} {meth : Method} {c : Code} {H : Heap} {locs : List Loc} {cells slots : Nat} {Q : State → Prop} {pc : Nat} {ls : Array Slot} {rest : List Value} {G : va_G} {ai : Nat → ClassId} {A : Nat → Prop} {cc : ByteArray} {nL f L kc ks : Nat} {qs qb : Nat} {tl : va_W} {bt : Nat → Int32} {cn : Int32} {fl : Int32} {j : Int32} (hC : mo_C p R s m args meth c G ai A own cc nL f L kc ks) (hI : mo_I G A s.heap (sb_C ai qs qb 20 bt cn fl ++ tl) H locs) (hg : gi j 20 = true) (hdg : decode cc pc = .ok (.baload, 1)) (kk : W p l e R s m args below meth c H locs cells slots Q (F0 m (pc + 1) ls (.int (bt j.toNatClampNeg) :: rest))) : W p l e R s m args below meth c H locs cells slots Q (F0 m pc ls (.int j :: .ref (qb) :: rest)) :=
  va_bald hC.1 hC.2.1 hC.2.2.2.2.2.2.1 hI.1 1 2 rfl rfl (gi_in hg) hdg kk
theorem sb20_J12_p_sb_maybeLatin1 {p : Program} {l : Launch} {e : Env} {R : Room} {s s0 : State} {b0 : Addr} {m : MethodId} {args : Array Value} {below : List Frame} {meth : Method} {c : Code} {H : Heap} {locs : List Loc} {cells slots : Nat} {Q : State → Prop} {pc : Nat} {ls : Array Slot} {rest : List Value} {G : va_G} {ai : Nat → ClassId} {A : Nat → Prop} {cc : ByteArray} {nL f L kc ks : Nat} {qs qb : Nat} {tl : va_W} {bt : Nat → Int32} {cn : Int32} {fl : Int32} {x : Int32} {z1 : Int32} (hC : mo_C p R s m args meth c G ai A RJ12 cc nL f L kc ks) (h0 : mo_S0 s0 b0) (hZ : mo_Z s0 A s) (hI : mo_I G A s.heap (sb_C ai qs qb 20 bt cn fl ++ tl) H locs) (hz : x = 0 ∨ x = 1) (hM : z1 = x) (hdg : decode cc pc = .ok (.putfield 73, 3)) (kk : ∀ (H1 : Heap) (locs1 : List Loc), mo_I G A s.heap (sb_C ai qs qb 20 bt cn z1 ++ tl) H1 locs1 → W p l e R s m args below meth c H1 locs1 cells slots Q (F0 m (pc + 3) ls (rest))) : W p l e R s m args below meth c H locs cells slots Q (F0 m pc ls (.int x :: .ref (qs) :: rest)) := by
  subst z1
  exact va_put (D := G) (ci := 16) (v := .int x) (ty := .boolean) (C := RJ13) (T := TJ13) (N := 4) hC.1 hC.2.1 hC.2.2.2.2.1 in_J13 tyJ13 tyJ13_ok nmJ13 hC.2.2.2.1 hC.2.2.2.2.2.2.1 hI.1 hI.2.1 hI.2.2 0 rfl rfl 2 (by decide) (hC.2.2.2.2.1 _ q524) (fun _ h9 => h9) rfl (by decide +kernel) (by rcases hz with h | h <;> (rw [h]; rfl)) (by rcases hz with h | h <;> (rw [h]; rfl)) (Nat.le_of_ble_eq_true rfl) hdg (fun H locs hP hD hS => kk H locs ⟨hP, hD, hS⟩)
def f_sb20_ens (bt : Nat → Int32) (cn : Int32) (fl : Int32) (a1 : Int32) : Option Int32 := lt (((20 : Int32) >>> (0 &&& 31))) (fun x2_1 => gd (decide ((a1 - x2_1) ≤ 0)) (some 0))
set_option maxHeartbeats 4000000 in
theorem w_sb20_ens (l : Launch) (G : va_G) (ai : Nat → ClassId) {s0 : State} {b0 : Addr} (h0 : mo_S0 s0 b0) {qs qb : Nat} {tl : va_W} (bt : Nat → Int32) (cn : Int32) (fl : Int32) (a1 : Int32) (r0 : Int32) (hF : f_sb20_ens bt cn fl a1 = some r0) : rv_Met l G ai s0 yJ12_ensureCapacityInternal cJ12_ensureCapacityInternal 3 ({ frames := 0, cells := 0, slots := 0, locals := 0 } : Room) [.ref qs, .int a1] (sb_C ai qs qb 20 bt cn fl ++ tl) := by
  refine gz_body (Qc := fun _ => rv_Q) (fr := fun _ _ => False) (by decide) (Nat.le_of_ble_eq_true rfl) ?_
  intro p e s m args below meth c A ls hC hZ hr hI hl hnm
  have hx := hC.1
  have hb := hC.2.1
  have hl : lv_has ls 3 [(0, .ref qs), (1, .int a1)] := hl
  show W p l e _ s m args below meth c s.heap [] 0 0 (MQ below rv_Q args s 0 0 (fun _ => False)) (F0 m 0 ls [])
  rw [f_sb20_ens] at hF
  refine lv_aload_n hx hb dJ12_ensureCapacityInternal_0 rfl (lv_at hl 0 rfl) ?_
  refine sb20_J12_g_sb_value hC h0 hZ hI dJ12_ensureCapacityInternal_1 ?_
  refine sb20_n_sbb hC hI dJ12_ensureCapacityInternal_4 ?_
  refine lv_aload_n hx hb dJ12_ensureCapacityInternal_5 rfl (lv_at hl 0 rfl) ?_
  refine sb20_J12_g_sb_coder hC h0 hZ hI dJ12_ensureCapacityInternal_6 ?_
  refine lv_ishr hx hb dJ12_ensureCapacityInternal_9 ?_
  obtain ⟨x2_1, hx2_1, hF⟩ := lt_some hF
  refine mo_ist (lv' := [(2, .int x2_1), (0, .ref qs), (1, .int a1)]) hx hb hx2_1 dJ12_ensureCapacityInternal_10 rfl hl (by decide) rfl (fun ls hl => ?_)
  refine lv_iload_n hx hb dJ12_ensureCapacityInternal_11 rfl (lv_at hl 2 rfl) ?_
  refine lv_iload_n hx hb dJ12_ensureCapacityInternal_12 rfl (lv_at hl 0 rfl) ?_
  refine lv_isub hx hb dJ12_ensureCapacityInternal_13 ?_
  obtain ⟨hg3, hF⟩ := gd_some hF
  have c2 := of_decide_eq_true hg3
  refine lv_if_le (tgt := 38) hx hb dJ12_ensureCapacityInternal_14 (by decide) (fun h9 => ?_) (fun h9 => ?_)
  · exact rd_vret hC hr dJ12_ensureCapacityInternal_38
  · exact absurd c2 h9
theorem k_J12_sb20_ens {p : Program} {l : Launch} {e : Env} {R : Room} {s s0 : State} {b0 : Addr} {m : MethodId} {args : Array Value} {below : List Frame} {meth : Method} {c : Code} {H : Heap} {locs : List Loc} {cells slots : Nat} {Q : State → Prop} {pc : Nat} {ls : Array Slot} {rest : List Value} {G : va_G} {ai : Nat → ClassId} {A : Nat → Prop} {cc : ByteArray} {nL f L kc ks : Nat} {qs qb : Nat} {tl : va_W} {bt : Nat → Int32} {cn : Int32} {fl : Int32} {a1 : Int32}  {r1 : Int32} (hC : mo_C p R s m args meth c G ai A RJ12 cc nL f L kc ks) (h0 : mo_S0 s0 b0) (hZ : mo_Z s0 A s) (hI : mo_I G A s.heap (sb_C ai qs qb 20 bt cn fl ++ tl) H locs) (hz : f_sb20_ens bt cn fl a1 = some r1) (hf : 0 + 1 ≤ f) (hL : 8 + (3 + 11) + 0 ≤ L) (hsz : ls.size = nL) (hW : (rest.map fun v => v.category).sum ≤ 8) (hdg : decode cc pc = .ok (.invokevirtual 100, 3)) (kk : W p l e R s m args below meth c H locs cells slots Q (F0 m (pc + 3) ls (rest))) (hc0 : cells ≤ kc := by first | exact Nat.zero_le _ | exact Nat.le_of_ble_eq_true rfl | assumption | omega) (hs0 : slots ≤ ks := by first | exact Nat.zero_le _ | exact Nat.le_of_ble_eq_true rfl | assumption | omega) : W p l e R s m args below meth c H locs cells slots Q (F0 m pc ls (.int a1 :: .ref qs :: rest)) :=
  rv_use (va_runVP (As := [.int a1]) (rest := rest) (n := 1) ⟨hC.1, hC.2.1, hC.2.2.1, hC.2.2.2.1, hC.2.2.2.2.1⟩ (w_sb20_ens l G ai h0 bt cn fl a1 r1 hz H.size) q1427 q1430 q137 q1429 (mo_priv h0 hZ q1428) q2429 ⟨by decide, by decide⟩ (by decide +kernel) rfl rfl ⟨Nat.le_trans hf hC.2.2.2.2.2.2.2.2.1, Nat.le_trans hL hC.2.2.2.2.2.2.2.2.2.1⟩ ⟨gz_blind, (va_recv hC.2.2.2.2.2.2.1 hI.1 (ci := 16) (q0 := 0) rfl rfl), gz_pre0 hC hZ hI⟩ rfl rfl hsz rfl (lv_room hW) hdg ⟨Nat.le_trans hc0 hC.2.2.2.2.2.2.2.2.2.2.1, Nat.le_trans hs0 hC.2.2.2.2.2.2.2.2.2.2.2⟩) kk
def f_sb20_isL (bt : Nat → Int32) (cn : Int32) (fl : Int32) : Option Int32 := some 1
set_option maxHeartbeats 4000000 in
theorem w_sb20_isL (l : Launch) (G : va_G) (ai : Nat → ClassId) {s0 : State} {b0 : Addr} (h0 : mo_S0 s0 b0) {qs qb : Nat} {tl : va_W} (bt : Nat → Int32) (cn : Int32) (fl : Int32) (r0 : Int32) (hF : f_sb20_isL bt cn fl = some r0) : rd_Met l G ai s0 yJ12_isLatin1 cJ12_isLatin1 1 (some .boolean) ({ frames := 0, cells := 0, slots := 0, locals := 0 } : Room) [.ref qs] (sb_C ai qs qb 20 bt cn fl ++ tl) (.int r0) := by
  refine gz_body (Qc := fun _ => rd_Q (.int r0)) (fr := fun _ _ => False) (by decide) (Nat.le_of_ble_eq_true rfl) ?_
  intro p e s m args below meth c A ls hC hZ hr hI hl hnm
  have hx := hC.1
  have hb := hC.2.1
  have hl : lv_has ls 1 [(0, .ref qs)] := hl
  show W p l e _ s m args below meth c s.heap [] 0 0 (MQ below (rd_Q (.int r0)) args s 0 0 (fun _ => False)) (F0 m 0 ls [])
  rw [f_sb20_isL] at hF
  refine va_gets hx hb (zs_cs h0 hZ) hI.2.2 hC.2.2.2.1 (hC.2.2.2.2.1 _ q513) (fun _ h9 => h9) dJ12_isLatin1_0 ?_
  refine lv_if_eq (tgt := 17) hx hb dJ12_isLatin1_3 (by decide) (fun h9 => ?_) (fun h9 => ?_)
  · exact absurd h9 (by decide)
  · refine lv_aload_n hx hb dJ12_isLatin1_6 rfl (lv_at hl 0 rfl) ?_
    refine sb20_J12_g_sb_coder hC h0 hZ hI dJ12_isLatin1_7 ?_
    refine lv_if_ne (tgt := 17) hx hb dJ12_isLatin1_10 (by decide) (fun h9 => ?_) (fun h9 => ?_)
    · exact absurd h9 (by decide)
    · refine lv_iconst (v := 1) hx hb dJ12_isLatin1_13 (by decide) ?_
      refine lv_goto (tgt := 18) hx hb dJ12_isLatin1_14 (by decide) ?_
      have hF := Option.some.inj hF
      subst hF
      exact rd_iret hC hr rfl dJ12_isLatin1_18
theorem k_J12_sb20_isL {p : Program} {l : Launch} {e : Env} {R : Room} {s s0 : State} {b0 : Addr} {m : MethodId} {args : Array Value} {below : List Frame} {meth : Method} {c : Code} {H : Heap} {locs : List Loc} {cells slots : Nat} {Q : State → Prop} {pc : Nat} {ls : Array Slot} {rest : List Value} {G : va_G} {ai : Nat → ClassId} {A : Nat → Prop} {cc : ByteArray} {nL f L kc ks : Nat} {qs qb : Nat} {tl : va_W} {bt : Nat → Int32} {cn : Int32} {fl : Int32}  {r1 : Int32} (hC : mo_C p R s m args meth c G ai A RJ12 cc nL f L kc ks) (h0 : mo_S0 s0 b0) (hZ : mo_Z s0 A s) (hI : mo_I G A s.heap (sb_C ai qs qb 20 bt cn fl ++ tl) H locs) (hz : f_sb20_isL bt cn fl = some r1) (hf : 0 + 1 ≤ f) (hL : 8 + (1 + 11) + 0 ≤ L) (hsz : ls.size = nL) (hW : (rest.map fun v => v.category).sum ≤ 8) (hdg : decode cc pc = .ok (.invokevirtual 83, 3)) (kk : W p l e R s m args below meth c H locs cells slots Q (F0 m (pc + 3) ls (.int r1 :: rest))) (hc0 : cells ≤ kc := by first | exact Nat.zero_le _ | exact Nat.le_of_ble_eq_true rfl | assumption | omega) (hs0 : slots ≤ ks := by first | exact Nat.zero_le _ | exact Nat.le_of_ble_eq_true rfl | assumption | omega) : W p l e R s m args below meth c H locs cells slots Q (F0 m pc ls (.ref qs :: rest)) :=
  rd_use (va_runVS (As := []) (rest := rest) (n := 0) ⟨hC.1, hC.2.1, hC.2.2.1, hC.2.2.2.1, hC.2.2.2.2.1⟩ (w_sb20_isL l G ai h0 bt cn fl r1 hz H.size) q1452 q1456 q137 q1453 q1455 ⟨by decide, by decide⟩ (by decide +kernel) rfl rfl ⟨Nat.le_trans hf hC.2.2.2.2.2.2.2.2.1, Nat.le_trans hL hC.2.2.2.2.2.2.2.2.2.1⟩ ⟨gz_blind, (va_recv hC.2.2.2.2.2.2.1 hI.1 (ci := 16) (q0 := 0) rfl rfl), gz_pre0 hC hZ hI⟩ rfl rfl hsz rfl (lv_room hW) hdg ⟨Nat.le_trans hc0 hC.2.2.2.2.2.2.2.2.2.2.1, Nat.le_trans hs0 hC.2.2.2.2.2.2.2.2.2.2.2⟩) kk
def f_sb20_app0 (bt : Nat → Int32) (cn : Int32) (fl : Int32) (a1 : Int32) : Option ((Int32 × (Nat → Int32) × Int32 × Int32)) := ov (f_sb20_ens bt cn fl ((cn) + 1)) (fun r1 => ov (f_sb20_isL bt cn fl) (fun r3 => lj (fun (bt5 : Nat → Int32) (cn6 : Int32) (fl7 : Int32) => some (0, (bt5, cn6, fl7))) (fun j75_7 => gd (decide (¬ (r3 = 0))) (gd (decide (¬ ((p_canEnc a1) = 0))) (lt (((cn) + 1)) (fun cn13 => gd (gi (cn) 20) (gd (gby a1.toInt8.toInt32) (lt (upd bt (cn).toNatClampNeg a1.toInt8.toInt32) (fun bt16 => j75_7 bt16 cn13 fl)))))))))
set_option maxHeartbeats 4000000 in
theorem w_sb20_app0 (l : Launch) (G : va_G) (ai : Nat → ClassId) {s0 : State} {b0 : Addr} (h0 : mo_S0 s0 b0) {qs qb : Nat} {tl : va_W} (bt : Nat → Int32) (cn : Int32) (fl : Int32) (a1 : Int32) (r0 : Int32) (u0 : (Nat → Int32) × Int32 × Int32) (hF : f_sb20_app0 bt cn fl a1 = some (r0, u0)) : gz_Mr l G ai s0 (fun (u : (Nat → Int32) × Int32 × Int32) => (sb_C ai qs qb 20 u.1 u.2.1 u.2.2 ++ tl)) yJ12_append_2 cJ12_append_2 2 (some (.object "java/lang/AbstractStringBuilder")) ({ frames := 1, cells := 0, slots := 0, locals := 22 } : Room) [.ref qs, .int a1] (sb_C ai qs qb 20 bt cn fl ++ tl) (fun (ra : Nat) (u : (Nat → Int32) × Int32 × Int32) => ra = qs ∧ u = u0) 0 0 := by
  refine gz_body (Qc := fun A => va_Qr (S := (Nat → Int32) × Int32 × Int32) (fun _ => True) (fun u ra t => (ra = qs ∧ u = u0) ∧ gw_E G ai (fun (u : (Nat → Int32) × Int32 × Int32) => (sb_C ai qs qb 20 u.1 u.2.1 u.2.2 ++ tl)) A u t) A) (fr := fun A => A) (by decide) (Nat.le_of_ble_eq_true rfl) ?_
  intro p e s m args below meth c A ls hC hZ hr hI hl hnm
  have hx := hC.1
  have hb := hC.2.1
  have hl : lv_has ls 2 [(0, .ref qs), (1, .int a1)] := hl
  show W p l e _ s m args below meth c s.heap [] 0 0 (MQ below (va_Qr (S := (Nat → Int32) × Int32 × Int32) (fun _ => True) (fun u ra t => (ra = qs ∧ u = u0) ∧ gw_E G ai (fun (u : (Nat → Int32) × Int32 × Int32) => (sb_C ai qs qb 20 u.1 u.2.1 u.2.2 ++ tl)) A u t) A) args s 0 0 A) (F0 m 0 ls [])
  rw [f_sb20_app0] at hF
  refine lv_aload_n hx hb dJ12_append_2_0 rfl (lv_at hl 0 rfl) ?_
  refine lv_aload_n hx hb dJ12_append_2_1 rfl (lv_at hl 0 rfl) ?_
  refine sb20_J12_g_sb_count hC h0 hZ hI dJ12_append_2_2 ?_
  refine lv_iconst (v := 1) hx hb dJ12_append_2_5 (by decide) ?_
  refine lv_iadd hx hb dJ12_append_2_6 ?_
  obtain ⟨r1, hz2, hF⟩ := ov_some hF
  refine k_J12_sb20_ens hC h0 hZ hI hz2 (Nat.le_of_ble_eq_true rfl) (Nat.le_of_ble_eq_true rfl) hl.1 (Nat.le_of_ble_eq_true rfl) dJ12_append_2_7 ?_
  refine lv_aload_n hx hb dJ12_append_2_10 rfl (lv_at hl 0 rfl) ?_
  obtain ⟨r3, hz4, hF⟩ := ov_some hF
  refine k_J12_sb20_isL hC h0 hZ hI hz4 (Nat.le_of_ble_eq_true rfl) (Nat.le_of_ble_eq_true rfl) hl.1 (Nat.le_of_ble_eq_true rfl) dJ12_append_2_11 ?_
  obtain ⟨j75_7, hj75_7, hF⟩ := lj_some hF
  have J75 : ∀ (bt5 : Nat → Int32) (cn6 : Int32) (fl7 : Int32) (H : Heap) (locs : List Loc) (ls : Array Slot), j75_7 bt5 cn6 fl7 = some (r0, u0) → mo_I G A s.heap (sb_C ai qs qb 20 bt5 cn6 fl7 ++ tl) H locs → lv_has ls 2 [(0, .ref qs)] → W p l e ({ frames := 1, cells := 0, slots := 0, locals := 22 } : Room) s m args below meth c H locs 0 0 (MQ below (va_Qr (S := (Nat → Int32) × Int32 × Int32) (fun _ => True) (fun u ra t => (ra = qs ∧ u = u0) ∧ gw_E G ai (fun (u : (Nat → Int32) × Int32 × Int32) => (sb_C ai qs qb 20 u.1 u.2.1 u.2.2 ++ tl)) A u t) A) args s 0 0 A) (F0 m 75 ls []) := by
    intro bt5 cn6 fl7 H locs ls hF hI hl
    rw [hj75_7] at hF
    refine lv_aload_n hx hb dJ12_append_2_75 rfl (lv_at hl 0 rfl) ?_
    cases hF
    exact W.aret hx hb hr (Or.inl ⟨_, rfl⟩) (Or.inr ⟨_, rfl⟩) (fun t ht hW => ⟨⟨_, _, rfl, trivial, ⟨rfl, rfl⟩, by rw [ht]; exact hI.1, va_K.moved hW.alike hC.2.2.2.2.2.2.1, hI.2.1⟩, hI.2.2.F ht⟩) hI.2.2.2.2 dJ12_append_2_76 hC.2.2.2.2.2.1
  obtain ⟨hg10, hF⟩ := gd_some hF
  have c9 := of_decide_eq_true hg10
  refine lv_if_eq (tgt := 45) hx hb dJ12_append_2_14 (by decide) (fun h9 => ?_) (fun h9 => ?_)
  · exact absurd h9 c9
  · refine lv_iload_n hx hb dJ12_append_2_17 rfl (lv_at hl 1 rfl) ?_
    refine k_J12_canEnc (mo_CN hC) (Nat.le_of_ble_eq_true rfl) (Nat.le_of_ble_eq_true rfl) hl.1 (Nat.le_of_ble_eq_true rfl) dJ12_append_2_18 ?_
    obtain ⟨hg12, hF⟩ := gd_some hF
    have c11 := of_decide_eq_true hg12
    refine lv_if_eq (tgt := 45) hx hb dJ12_append_2_21 (by decide) (fun h9 => ?_) (fun h9 => ?_)
    · exact absurd h9 c11
    · refine lv_aload_n hx hb dJ12_append_2_24 rfl (lv_at hl 0 rfl) ?_
      refine sb20_J12_g_sb_value hC h0 hZ hI dJ12_append_2_25 ?_
      refine lv_aload_n hx hb dJ12_append_2_28 rfl (lv_at hl 0 rfl) ?_
      refine lv_dup hx hb dJ12_append_2_29 rfl ?_
      refine sb20_J12_g_sb_count hC h0 hZ hI dJ12_append_2_30 ?_
      refine lv_dup_x1 hx hb dJ12_append_2_33 rfl rfl ?_
      refine lv_iconst (v := 1) hx hb dJ12_append_2_34 (by decide) ?_
      refine lv_iadd hx hb dJ12_append_2_35 ?_
      obtain ⟨cn13, hcn13, hF⟩ := lt_some hF
      refine sb20_J12_p_sb_count hC h0 hZ hI hcn13 dJ12_append_2_36 (fun H locs hI => ?_)
      refine lv_iload_n hx hb dJ12_append_2_39 rfl (lv_at hl 1 rfl) ?_
      refine lv_i2b hx hb dJ12_append_2_40 rfl ?_
      obtain ⟨hg14, hF⟩ := gd_some hF
      obtain ⟨hg15, hF⟩ := gd_some hF
      obtain ⟨bt16, hbt16, hF⟩ := lt_some hF
      refine sb20_s_sbb hC hI hg14 (gby_n hg15) hbt16 dJ12_append_2_41 (fun H locs hI => ?_)
      refine lv_goto (tgt := 75) hx hb dJ12_append_2_42 (by decide) ?_
      exact J75 _ _ _ _ _ _ hF hI (lv_sub hl [0] rfl)
theorem k_J13_sb20_app0 {p : Program} {l : Launch} {e : Env} {R : Room} {s s0 : State} {b0 : Addr} {m : MethodId} {args : Array Value} {below : List Frame} {meth : Method} {c : Code} {H : Heap} {locs : List Loc} {cells slots : Nat} {Q : State → Prop} {pc : Nat} {ls : Array Slot} {rest : List Value} {G : va_G} {ai : Nat → ClassId} {A : Nat → Prop} {cc : ByteArray} {nL f L kc ks : Nat} {qs qb : Nat} {tl : va_W} {bt : Nat → Int32} {cn : Int32} {fl : Int32} {a1 : Int32}  {r1 : Int32} {u1 : (Nat → Int32) × Int32 × Int32} (hC : mo_C p R s m args meth c G ai A RJ13 cc nL f L kc ks) (h0 : mo_S0 s0 b0) (hZ : mo_Z s0 A s) (hI : mo_I G A s.heap (sb_C ai qs qb 20 bt cn fl ++ tl) H locs) (hz : f_sb20_app0 bt cn fl a1 = some (r1, u1)) (hf : 1 + 1 ≤ f) (hL : 8 + (2 + 11) + 22 ≤ L) (hsz : ls.size = nL) (hW : (rest.map fun v => v.category).sum ≤ 8) (hdg : decode cc pc = .ok (.invokespecial 50, 3)) (kk : ∀ (H1 : Heap) (locs1 : List Loc), mo_I G A s.heap (sb_C ai qs qb 20 u1.1 u1.2.1 u1.2.2 ++ tl) H1 locs1 → W p l e R s m args below meth c H1 locs1 cells slots Q (F0 m (pc + 3) ls (.ref (qs) :: rest))) (hc0 : cells + 0 ≤ kc := by first | exact Nat.zero_le _ | exact Nat.le_of_ble_eq_true rfl | assumption | omega) (hs0 : slots + 0 ≤ ks := by first | exact Nat.zero_le _ | exact Nat.le_of_ble_eq_true rfl | assumption | omega) : W p l e R s m args below meth c H locs cells slots Q (F0 m pc ls (.int a1 :: .ref qs :: rest)) :=
  gz_user0 hC.2.2.2.2.2.2.2.1 hI (va_runSU (As := [.int a1]) (rest := rest) (Exists.choose_spec (mo_at hC.2.2.2.2.2.2.1 (ci := 16) rfl)) ⟨hC.1, hC.2.1, hC.2.2.1, hC.2.2.2.1, hC.2.2.2.2.1⟩ (w_sb20_app0 l G ai h0 bt cn fl a1 r1 u1 hz H.size) (va_cwSU 1 hC.2.2.2.2.1 (lw_SU q1675 q2437 q535 q1676 q137 q1677) rfl rfl rfl ⟨by decide, by decide +kernel⟩ ⟨Nat.le_trans hf hC.2.2.2.2.2.2.2.2.1, Nat.le_trans hL hC.2.2.2.2.2.2.2.2.2.1⟩) ⟨gz_blind, (va_recv hC.2.2.2.2.2.2.1 hI.1 (ci := 16) (q0 := 0) rfl rfl), gz_pre0 hC hZ hI⟩ rfl rfl hsz rfl (lv_room hW) hdg ⟨Nat.le_trans hc0 hC.2.2.2.2.2.2.2.2.2.2.1, Nat.le_trans hs0 hC.2.2.2.2.2.2.2.2.2.2.2⟩) (fun r u H1 locs1 hp hI1 => by obtain ⟨rfl, rfl⟩ := hp; exact kk H1 locs1 hI1)
def f_sb20_len0 (bt : Nat → Int32) (cn : Int32) (fl : Int32) : Option Int32 := some (cn)
set_option maxHeartbeats 4000000 in
theorem w_sb20_len0 (l : Launch) (G : va_G) (ai : Nat → ClassId) {s0 : State} {b0 : Addr} (h0 : mo_S0 s0 b0) {qs qb : Nat} {tl : va_W} (bt : Nat → Int32) (cn : Int32) (fl : Int32) (r0 : Int32) (hF : f_sb20_len0 bt cn fl = some r0) : rd_Met l G ai s0 yJ12_length cJ12_length 1 (some .int) ({ frames := 0, cells := 0, slots := 0, locals := 0 } : Room) [.ref qs] (sb_C ai qs qb 20 bt cn fl ++ tl) (.int r0) := by
  refine gz_body (Qc := fun _ => rd_Q (.int r0)) (fr := fun _ _ => False) (by decide) (Nat.le_of_ble_eq_true rfl) ?_
  intro p e s m args below meth c A ls hC hZ hr hI hl hnm
  have hx := hC.1
  have hb := hC.2.1
  have hl : lv_has ls 1 [(0, .ref qs)] := hl
  show W p l e _ s m args below meth c s.heap [] 0 0 (MQ below (rd_Q (.int r0)) args s 0 0 (fun _ => False)) (F0 m 0 ls [])
  rw [f_sb20_len0] at hF
  refine lv_aload_n hx hb dJ12_length_0 rfl (lv_at hl 0 rfl) ?_
  refine sb20_J12_g_sb_count hC h0 hZ hI dJ12_length_1 ?_
  have hF := Option.some.inj hF
  subst hF
  exact rd_iret hC hr rfl dJ12_length_4
theorem k_J13_sb20_len0 {p : Program} {l : Launch} {e : Env} {R : Room} {s s0 : State} {b0 : Addr} {m : MethodId} {args : Array Value} {below : List Frame} {meth : Method} {c : Code} {H : Heap} {locs : List Loc} {cells slots : Nat} {Q : State → Prop} {pc : Nat} {ls : Array Slot} {rest : List Value} {G : va_G} {ai : Nat → ClassId} {A : Nat → Prop} {cc : ByteArray} {nL f L kc ks : Nat} {qs qb : Nat} {tl : va_W} {bt : Nat → Int32} {cn : Int32} {fl : Int32}  {r1 : Int32} (hC : mo_C p R s m args meth c G ai A RJ13 cc nL f L kc ks) (h0 : mo_S0 s0 b0) (hZ : mo_Z s0 A s) (hI : mo_I G A s.heap (sb_C ai qs qb 20 bt cn fl ++ tl) H locs) (hz : f_sb20_len0 bt cn fl = some r1) (hf : 0 + 1 ≤ f) (hL : 8 + (1 + 11) + 0 ≤ L) (hsz : ls.size = nL) (hW : (rest.map fun v => v.category).sum ≤ 8) (hdg : decode cc pc = .ok (.invokespecial 343, 3)) (kk : W p l e R s m args below meth c H locs cells slots Q (F0 m (pc + 3) ls (.int r1 :: rest))) (hc0 : cells ≤ kc := by first | exact Nat.zero_le _ | exact Nat.le_of_ble_eq_true rfl | assumption | omega) (hs0 : slots ≤ ks := by first | exact Nat.zero_le _ | exact Nat.le_of_ble_eq_true rfl | assumption | omega) : W p l e R s m args below meth c H locs cells slots Q (F0 m pc ls (.ref qs :: rest)) :=
  rd_use (va_runSU (As := []) (rest := rest) (Exists.choose_spec (mo_at hC.2.2.2.2.2.2.1 (ci := 16) rfl)) ⟨hC.1, hC.2.1, hC.2.2.1, hC.2.2.2.1, hC.2.2.2.2.1⟩ (w_sb20_len0 l G ai h0 bt cn fl r1 hz H.size) (va_cwSU 0 hC.2.2.2.2.1 (lw_SU q1539 q1535 q535 q1534 q137 q1540) rfl rfl rfl ⟨by decide, by decide +kernel⟩ ⟨Nat.le_trans hf hC.2.2.2.2.2.2.2.2.1, Nat.le_trans hL hC.2.2.2.2.2.2.2.2.2.1⟩) ⟨gz_blind, (va_recv hC.2.2.2.2.2.2.1 hI.1 (ci := 16) (q0 := 0) rfl rfl), gz_pre0 hC hZ hI⟩ rfl rfl hsz rfl (lv_room hW) hdg ⟨Nat.le_trans hc0 hC.2.2.2.2.2.2.2.2.2.2.1, Nat.le_trans hs0 hC.2.2.2.2.2.2.2.2.2.2.2⟩) kk
def f_sb20_chr0 (bt : Nat → Int32) (cn : Int32) (fl : Int32) (a1 : Int32) : Option Int32 := lt ((p_mmin (cn) ((20 : Int32) >>> (0 &&& 31)))) (fun x4_1 => ov (f_nw_chk a1 x4_1) (fun r2 => gd (gi a1 20) (gd (gc ((((bt a1.toNatClampNeg) &&& 255).toUInt32 % 65536).toInt32)) (some ((((bt a1.toNatClampNeg) &&& 255).toUInt32 % 65536).toInt32)))))
set_option maxHeartbeats 4000000 in
theorem w_sb20_chr0 (l : Launch) (G : va_G) (ai : Nat → ClassId) {s0 : State} {b0 : Addr} (h0 : mo_S0 s0 b0) {qs qb : Nat} {tl : va_W} (bt : Nat → Int32) (cn : Int32) (fl : Int32) (a1 : Int32) (r0 : Int32) (hF : f_sb20_chr0 bt cn fl a1 = some r0) : rd_Met l G ai s0 yJ12_charAt cJ12_charAt 5 (some .char) ({ frames := 2, cells := 0, slots := 0, locals := 43 } : Room) [.ref qs, .int a1] (sb_C ai qs qb 20 bt cn fl ++ tl) (.int r0) := by
  refine gz_body (Qc := fun _ => rd_Q (.int r0)) (fr := fun _ _ => False) (by decide) (Nat.le_of_ble_eq_true rfl) ?_
  intro p e s m args below meth c A ls hC hZ hr hI hl hnm
  have hx := hC.1
  have hb := hC.2.1
  have hl : lv_has ls 5 [(0, .ref qs), (1, .int a1)] := hl
  show W p l e _ s m args below meth c s.heap [] 0 0 (MQ below (rd_Q (.int r0)) args s 0 0 (fun _ => False)) (F0 m 0 ls [])
  rw [f_sb20_chr0] at hF
  refine lv_aload_n hx hb dJ12_charAt_0 rfl (lv_at hl 0 rfl) ?_
  refine sb20_J12_g_sb_coder hC h0 hZ hI dJ12_charAt_1 ?_
  refine mo_ist (lv' := [(2, .int 0), (0, .ref qs), (1, .int a1)]) hx hb rfl dJ12_charAt_4 rfl hl (by decide) rfl (fun ls hl => ?_)
  refine lv_aload_n hx hb dJ12_charAt_5 rfl (lv_at hl 1 rfl) ?_
  refine sb20_J12_g_sb_value hC h0 hZ hI dJ12_charAt_6 ?_
  refine lv_astore_n (lv' := [(3, .ref qb), (2, .int 0), (0, .ref qs), (1, .int a1)]) hx hb dJ12_charAt_9 rfl hl (by decide) rfl (fun ls hl => ?_)
  refine lv_aload_n hx hb dJ12_charAt_10 rfl (lv_at hl 2 rfl) ?_
  refine sb20_J12_g_sb_count hC h0 hZ hI dJ12_charAt_11 ?_
  refine lv_aload_n hx hb dJ12_charAt_14 rfl (lv_at hl 0 rfl) ?_
  refine sb20_n_sbb hC hI dJ12_charAt_15 ?_
  refine lv_iload_n hx hb dJ12_charAt_16 rfl (lv_at hl 1 rfl) ?_
  refine lv_ishr hx hb dJ12_charAt_17 ?_
  refine mo_min (mo_CN hC) q1722 (Nat.le_of_ble_eq_true rfl) (Nat.le_of_ble_eq_true rfl) hl.1 (Nat.le_of_ble_eq_true rfl) dJ12_charAt_18 ?_
  obtain ⟨x4_1, hx4_1, hF⟩ := lt_some hF
  refine mo_ist4 (lv' := [(4, .int x4_1), (3, .ref qb), (2, .int 0), (0, .ref qs), (1, .int a1)]) hx hb hx4_1 dJ12_charAt_21 hl (by decide) rfl (fun ls hl => ?_)
  refine lv_iload_n hx hb dJ12_charAt_23 rfl (lv_at hl 4 rfl) ?_
  refine lv_iload hx hb dJ12_charAt_24 (lv_at hl 0 rfl) ?_
  obtain ⟨r2, hz3, hF⟩ := ov_some hF
  refine k_J12_nw_chk hC h0 hZ hI hz3 (Nat.le_of_ble_eq_true rfl) (Nat.le_of_ble_eq_true rfl) hl.1 (Nat.le_of_ble_eq_true rfl) dJ12_charAt_26 ?_
  refine lv_iload_n hx hb dJ12_charAt_29 rfl (lv_at hl 2 rfl) ?_
  refine lv_if_ne (tgt := 42) hx hb dJ12_charAt_30 (by decide) (fun h9 => ?_) (fun h9 => ?_)
  · exact absurd h9 (by decide)
  · refine lv_aload_n hx hb dJ12_charAt_33 rfl (lv_at hl 1 rfl) ?_
    refine lv_iload_n hx hb dJ12_charAt_34 rfl (lv_at hl 4 rfl) ?_
    obtain ⟨hg4, hF⟩ := gd_some hF
    refine sb20_l_sbb hC hI hg4 dJ12_charAt_35 ?_
    refine lv_sipush (v := 255) hx hb dJ12_charAt_36 (by decide) ?_
    refine lv_iand hx hb dJ12_charAt_39 ?_
    refine lv_i2c hx hb dJ12_charAt_40 rfl ?_
    obtain ⟨hg, hF⟩ := gd_some hF
    have hF := Option.some.inj hF
    subst hF
    exact rd_iret hC hr (gc_n hg) dJ12_charAt_41
theorem k_J13_sb20_chr0 {p : Program} {l : Launch} {e : Env} {R : Room} {s s0 : State} {b0 : Addr} {m : MethodId} {args : Array Value} {below : List Frame} {meth : Method} {c : Code} {H : Heap} {locs : List Loc} {cells slots : Nat} {Q : State → Prop} {pc : Nat} {ls : Array Slot} {rest : List Value} {G : va_G} {ai : Nat → ClassId} {A : Nat → Prop} {cc : ByteArray} {nL f L kc ks : Nat} {qs qb : Nat} {tl : va_W} {bt : Nat → Int32} {cn : Int32} {fl : Int32} {a1 : Int32}  {r1 : Int32} (hC : mo_C p R s m args meth c G ai A RJ13 cc nL f L kc ks) (h0 : mo_S0 s0 b0) (hZ : mo_Z s0 A s) (hI : mo_I G A s.heap (sb_C ai qs qb 20 bt cn fl ++ tl) H locs) (hz : f_sb20_chr0 bt cn fl a1 = some r1) (hf : 2 + 1 ≤ f) (hL : 8 + (5 + 11) + 43 ≤ L) (hsz : ls.size = nL) (hW : (rest.map fun v => v.category).sum ≤ 8) (hdg : decode cc pc = .ok (.invokespecial 329, 3)) (kk : W p l e R s m args below meth c H locs cells slots Q (F0 m (pc + 3) ls (.int r1 :: rest))) (hc0 : cells ≤ kc := by first | exact Nat.zero_le _ | exact Nat.le_of_ble_eq_true rfl | assumption | omega) (hs0 : slots ≤ ks := by first | exact Nat.zero_le _ | exact Nat.le_of_ble_eq_true rfl | assumption | omega) : W p l e R s m args below meth c H locs cells slots Q (F0 m pc ls (.int a1 :: .ref qs :: rest)) :=
  rd_use (va_runSU (As := [.int a1]) (rest := rest) (Exists.choose_spec (mo_at hC.2.2.2.2.2.2.1 (ci := 16) rfl)) ⟨hC.1, hC.2.1, hC.2.2.1, hC.2.2.2.1, hC.2.2.2.2.1⟩ (w_sb20_chr0 l G ai h0 bt cn fl a1 r1 hz H.size) (va_cwSU 1 hC.2.2.2.2.1 (lw_SU q1719 q2438 q535 q1720 q137 q1721) rfl rfl rfl ⟨by decide, by decide +kernel⟩ ⟨Nat.le_trans hf hC.2.2.2.2.2.2.2.2.1, Nat.le_trans hL hC.2.2.2.2.2.2.2.2.2.1⟩) ⟨gz_blind, (va_recv hC.2.2.2.2.2.2.1 hI.1 (ci := 16) (q0 := 0) rfl rfl), gz_pre0 hC hZ hI⟩ rfl rfl hsz rfl (lv_room hW) hdg ⟨Nat.le_trans hc0 hC.2.2.2.2.2.2.2.2.2.2.1, Nat.le_trans hs0 hC.2.2.2.2.2.2.2.2.2.2.2⟩) kk
def f_sb20_set0 (bt : Nat → Int32) (cn : Int32) (fl : Int32) (a1 : Int32) : Option ((Int32 × (Nat → Int32) × Int32 × Int32)) := gd (decide (0 ≤ a1)) (ov (f_sb20_ens bt cn fl a1) (fun r3 => lj (fun (bt5 : Nat → Int32) (cn6 : Int32) (fl7 : Int32) => lt (a1) (fun cn9 => some (0, (bt5, cn9, fl7)))) (fun j76_7 => gd (decide (a1 ≤ (cn))) (if (cn) ≤ a1 then (j76_7 bt cn fl) else (lt (1) (fun fl13 => j76_7 bt cn fl13))))))
set_option maxHeartbeats 4000000 in
theorem w_sb20_set0 (l : Launch) (G : va_G) (ai : Nat → ClassId) {s0 : State} {b0 : Addr} (h0 : mo_S0 s0 b0) {qs qb : Nat} {tl : va_W} (bt : Nat → Int32) (cn : Int32) (fl : Int32) (a1 : Int32) (r0 : Int32) (u0 : (Nat → Int32) × Int32 × Int32) (hF : f_sb20_set0 bt cn fl a1 = some (r0, u0)) : gz_Mv l G ai s0 (fun (u : (Nat → Int32) × Int32 × Int32) => (sb_C ai qs qb 20 u.1 u.2.1 u.2.2 ++ tl)) yJ12_setLength cJ12_setLength 2 ({ frames := 1, cells := 0, slots := 0, locals := 22 } : Room) [.ref qs, .int a1] (sb_C ai qs qb 20 bt cn fl ++ tl) (fun (u : (Nat → Int32) × Int32 × Int32) => u = u0) 0 0 := by
  refine gz_body (Qc := fun A => va_Qv (fun (u : (Nat → Int32) × Int32 × Int32) => u = u0) (gw_E G ai (fun (u : (Nat → Int32) × Int32 × Int32) => (sb_C ai qs qb 20 u.1 u.2.1 u.2.2 ++ tl)) A) A) (fr := fun A => A) (by decide) (Nat.le_of_ble_eq_true rfl) ?_
  intro p e s m args below meth c A ls hC hZ hr hI hl hnm
  have hx := hC.1
  have hb := hC.2.1
  have hl : lv_has ls 2 [(0, .ref qs), (1, .int a1)] := hl
  show W p l e _ s m args below meth c s.heap [] 0 0 (MQ below (va_Qv (fun (u : (Nat → Int32) × Int32 × Int32) => u = u0) (gw_E G ai (fun (u : (Nat → Int32) × Int32 × Int32) => (sb_C ai qs qb 20 u.1 u.2.1 u.2.2 ++ tl)) A) A) args s 0 0 A) (F0 m 0 ls [])
  rw [f_sb20_set0] at hF
  refine lv_iload_n hx hb dJ12_setLength_0 rfl (lv_at hl 1 rfl) ?_
  obtain ⟨hg2, hF⟩ := gd_some hF
  have c1 := of_decide_eq_true hg2
  refine lv_if_ge (tgt := 13) hx hb dJ12_setLength_1 (by decide) (fun h9 => ?_) (fun h9 => ?_)
  · refine lv_aload_n hx hb dJ12_setLength_13 rfl (lv_at hl 0 rfl) ?_
    refine lv_iload_n hx hb dJ12_setLength_14 rfl (lv_at hl 1 rfl) ?_
    obtain ⟨r3, hz4, hF⟩ := ov_some hF
    refine k_J12_sb20_ens hC h0 hZ hI hz4 (Nat.le_of_ble_eq_true rfl) (Nat.le_of_ble_eq_true rfl) hl.1 (Nat.le_of_ble_eq_true rfl) dJ12_setLength_15 ?_
    refine lv_aload_n hx hb dJ12_setLength_18 rfl (lv_at hl 0 rfl) ?_
    refine sb20_J12_g_sb_count hC h0 hZ hI dJ12_setLength_19 ?_
    refine lv_iload_n hx hb dJ12_setLength_22 rfl (lv_at hl 1 rfl) ?_
    obtain ⟨j76_7, hj76_7, hF⟩ := lj_some hF
    have J76 : ∀ (bt5 : Nat → Int32) (cn6 : Int32) (fl7 : Int32) (H : Heap) (locs : List Loc) (ls : Array Slot), j76_7 bt5 cn6 fl7 = some (r0, u0) → mo_I G A s.heap (sb_C ai qs qb 20 bt5 cn6 fl7 ++ tl) H locs → lv_has ls 2 [(0, .ref qs), (1, .int a1)] → W p l e ({ frames := 1, cells := 0, slots := 0, locals := 22 } : Room) s m args below meth c H locs 0 0 (MQ below (va_Qv (fun (u : (Nat → Int32) × Int32 × Int32) => u = u0) (gw_E G ai (fun (u : (Nat → Int32) × Int32 × Int32) => (sb_C ai qs qb 20 u.1 u.2.1 u.2.2 ++ tl)) A) A) args s 0 0 A) (F0 m 76 ls []) := by
      intro bt5 cn6 fl7 H locs ls hF hI hl
      rw [hj76_7] at hF
      refine lv_aload_n hx hb dJ12_setLength_76 rfl (lv_at hl 0 rfl) ?_
      refine lv_iload_n hx hb dJ12_setLength_77 rfl (lv_at hl 1 rfl) ?_
      obtain ⟨cn9, hcn9, hF⟩ := lt_some hF
      refine sb20_J12_p_sb_count hC h0 hZ hI hcn9 dJ12_setLength_78 (fun H locs hI => ?_)
      cases hF
      exact W.vret hx hb hr (fun t ht hW => ⟨⟨_, rfl, rfl, by rw [ht]; exact hI.1, va_K.moved hW.alike hC.2.2.2.2.2.2.1, hI.2.1⟩, hI.2.2.F ht⟩) hI.2.2.2.2 dJ12_setLength_81 hC.2.2.2.2.2.1
    obtain ⟨hg11, hF⟩ := gd_some hF
    have c10 := of_decide_eq_true hg11
    refine lv_icmp_ge (tgt := 63) hx hb dJ12_setLength_23 (by decide) (fun h9 => ?_) (fun h9 => ?_)
    · refine lv_aload_n hx hb dJ12_setLength_63 rfl (lv_at hl 0 rfl) ?_
      refine sb20_J12_g_sb_count hC h0 hZ hI dJ12_setLength_64 ?_
      refine lv_iload_n hx hb dJ12_setLength_67 rfl (lv_at hl 1 rfl) ?_
      refine lv_icmp_le (tgt := 76) hx hb dJ12_setLength_68 (by decide) (fun c12 => ?_) (fun c12 => ?_)
      · have hF := if_t hF c12
        exact J76 _ _ _ _ _ _ hF hI (lv_sub hl [0, 1] rfl)
      · have hF := if_f hF c12
        refine lv_aload_n hx hb dJ12_setLength_71 rfl (lv_at hl 0 rfl) ?_
        refine lv_iconst (v := 1) hx hb dJ12_setLength_72 (by decide) ?_
        obtain ⟨fl13, hfl13, hF⟩ := lt_some hF
        refine sb20_J12_p_sb_maybeLatin1 hC h0 hZ hI (by decide) hfl13 dJ12_setLength_73 (fun H locs hI => ?_)
        exact J76 _ _ _ _ _ _ hF hI (lv_sub hl [0, 1] rfl)
    · exact absurd c10 h9
  · exact absurd c1 h9
theorem k_J13_sb20_set0 {p : Program} {l : Launch} {e : Env} {R : Room} {s s0 : State} {b0 : Addr} {m : MethodId} {args : Array Value} {below : List Frame} {meth : Method} {c : Code} {H : Heap} {locs : List Loc} {cells slots : Nat} {Q : State → Prop} {pc : Nat} {ls : Array Slot} {rest : List Value} {G : va_G} {ai : Nat → ClassId} {A : Nat → Prop} {cc : ByteArray} {nL f L kc ks : Nat} {qs qb : Nat} {tl : va_W} {bt : Nat → Int32} {cn : Int32} {fl : Int32} {a1 : Int32}  {r1 : Int32} {u1 : (Nat → Int32) × Int32 × Int32} (hC : mo_C p R s m args meth c G ai A RJ13 cc nL f L kc ks) (h0 : mo_S0 s0 b0) (hZ : mo_Z s0 A s) (hI : mo_I G A s.heap (sb_C ai qs qb 20 bt cn fl ++ tl) H locs) (hz : f_sb20_set0 bt cn fl a1 = some (r1, u1)) (hf : 1 + 1 ≤ f) (hL : 8 + (2 + 11) + 22 ≤ L) (hsz : ls.size = nL) (hW : (rest.map fun v => v.category).sum ≤ 8) (hdg : decode cc pc = .ok (.invokespecial 333, 3)) (kk : ∀ (H1 : Heap) (locs1 : List Loc), mo_I G A s.heap (sb_C ai qs qb 20 u1.1 u1.2.1 u1.2.2 ++ tl) H1 locs1 → W p l e R s m args below meth c H1 locs1 cells slots Q (F0 m (pc + 3) ls (rest))) (hc0 : cells + 0 ≤ kc := by first | exact Nat.zero_le _ | exact Nat.le_of_ble_eq_true rfl | assumption | omega) (hs0 : slots + 0 ≤ ks := by first | exact Nat.zero_le _ | exact Nat.le_of_ble_eq_true rfl | assumption | omega) : W p l e R s m args below meth c H locs cells slots Q (F0 m pc ls (.int a1 :: .ref qs :: rest)) :=
  gz_usev0 hC.2.2.2.2.2.2.2.1 hI (va_runSU (As := [.int a1]) (rest := rest) (Exists.choose_spec (mo_at hC.2.2.2.2.2.2.1 (ci := 16) rfl)) ⟨hC.1, hC.2.1, hC.2.2.1, hC.2.2.2.1, hC.2.2.2.2.1⟩ (w_sb20_set0 l G ai h0 bt cn fl a1 r1 u1 hz H.size) (va_cwSU 1 hC.2.2.2.2.1 (lw_SU q1793 q2439 q535 q1794 q137 q1795) rfl rfl rfl ⟨by decide, by decide +kernel⟩ ⟨Nat.le_trans hf hC.2.2.2.2.2.2.2.2.1, Nat.le_trans hL hC.2.2.2.2.2.2.2.2.2.1⟩) ⟨gz_blind, (va_recv hC.2.2.2.2.2.2.1 hI.1 (ci := 16) (q0 := 0) rfl rfl), gz_pre0 hC hZ hI⟩ rfl rfl hsz rfl (lv_room hW) hdg ⟨Nat.le_trans hc0 hC.2.2.2.2.2.2.2.2.2.2.1, Nat.le_trans hs0 hC.2.2.2.2.2.2.2.2.2.2.2⟩) (fun u H1 locs1 hp hI1 => by cases hp; exact kk H1 locs1 hI1)
def f_sb20_app (bt : Nat → Int32) (cn : Int32) (fl : Int32) (a1 : Int32) : Option ((Int32 × (Nat → Int32) × Int32 × Int32)) := ob (f_sb20_app0 bt cn fl a1) (fun r1 u2 => some (0, (u2.1, u2.2.1, u2.2.2)))
set_option maxHeartbeats 4000000 in
theorem w_sb20_app (l : Launch) (G : va_G) (ai : Nat → ClassId) {s0 : State} {b0 : Addr} (h0 : mo_S0 s0 b0) {qs qb : Nat} {tl : va_W} (bt : Nat → Int32) (cn : Int32) (fl : Int32) (a1 : Int32) (r0 : Int32) (u0 : (Nat → Int32) × Int32 × Int32) (hF : f_sb20_app bt cn fl a1 = some (r0, u0)) : gz_Mr l G ai s0 (fun (u : (Nat → Int32) × Int32 × Int32) => (sb_C ai qs qb 20 u.1 u.2.1 u.2.2 ++ tl)) yJ13_append_2 cJ13_append_2 2 (some (.object "java/lang/StringBuilder")) ({ frames := 2, cells := 0, slots := 0, locals := 43 } : Room) [.ref qs, .int a1] (sb_C ai qs qb 20 bt cn fl ++ tl) (fun (ra : Nat) (u : (Nat → Int32) × Int32 × Int32) => ra = qs ∧ u = u0) 0 0 := by
  refine gz_body (Qc := fun A => va_Qr (S := (Nat → Int32) × Int32 × Int32) (fun _ => True) (fun u ra t => (ra = qs ∧ u = u0) ∧ gw_E G ai (fun (u : (Nat → Int32) × Int32 × Int32) => (sb_C ai qs qb 20 u.1 u.2.1 u.2.2 ++ tl)) A u t) A) (fr := fun A => A) (by decide) (Nat.le_of_ble_eq_true rfl) ?_
  intro p e s m args below meth c A ls hC hZ hr hI hl hnm
  have hx := hC.1
  have hb := hC.2.1
  have hl : lv_has ls 2 [(0, .ref qs), (1, .int a1)] := hl
  show W p l e _ s m args below meth c s.heap [] 0 0 (MQ below (va_Qr (S := (Nat → Int32) × Int32 × Int32) (fun _ => True) (fun u ra t => (ra = qs ∧ u = u0) ∧ gw_E G ai (fun (u : (Nat → Int32) × Int32 × Int32) => (sb_C ai qs qb 20 u.1 u.2.1 u.2.2 ++ tl)) A u t) A) args s 0 0 A) (F0 m 0 ls [])
  rw [f_sb20_app] at hF
  refine lv_aload_n hx hb dJ13_append_2_0 rfl (lv_at hl 0 rfl) ?_
  refine lv_iload_n hx hb dJ13_append_2_1 rfl (lv_at hl 1 rfl) ?_
  obtain ⟨r1, u2, hz3, hF⟩ := ob_some hF
  refine k_J13_sb20_app0 hC h0 hZ hI hz3 (Nat.le_of_ble_eq_true rfl) (Nat.le_of_ble_eq_true rfl) hl.1 (Nat.le_of_ble_eq_true rfl) dJ13_append_2_2 (fun H locs hI => ?_)
  refine lv_pop hx hb dJ13_append_2_5 rfl ?_
  refine lv_aload_n hx hb dJ13_append_2_6 rfl (lv_at hl 0 rfl) ?_
  cases hF
  exact W.aret hx hb hr (Or.inl ⟨_, rfl⟩) (Or.inr ⟨_, rfl⟩) (fun t ht hW => ⟨⟨_, _, rfl, trivial, ⟨rfl, rfl⟩, by rw [ht]; exact hI.1, va_K.moved hW.alike hC.2.2.2.2.2.2.1, hI.2.1⟩, hI.2.2.F ht⟩) hI.2.2.2.2 dJ13_append_2_7 hC.2.2.2.2.2.1
theorem k_X0_sb20_app {p : Program} {l : Launch} {e : Env} {R : Room} {s s0 : State} {b0 : Addr} {m : MethodId} {args : Array Value} {below : List Frame} {meth : Method} {c : Code} {H : Heap} {locs : List Loc} {cells slots : Nat} {Q : State → Prop} {pc : Nat} {ls : Array Slot} {rest : List Value} {G : va_G} {ai : Nat → ClassId} {A : Nat → Prop} {cc : ByteArray} {nL f L kc ks : Nat} {qs qb : Nat} {tl : va_W} {bt : Nat → Int32} {cn : Int32} {fl : Int32} {a1 : Int32}  {r1 : Int32} {u1 : (Nat → Int32) × Int32 × Int32} (hC : mo_C p R s m args meth c G ai A RX0 cc nL f L kc ks) (h0 : mo_S0 s0 b0) (hZ : mo_Z s0 A s) (hI : mo_I G A s.heap (sb_C ai qs qb 20 bt cn fl ++ tl) H locs) (hz : f_sb20_app bt cn fl a1 = some (r1, u1)) (hf : 2 + 1 ≤ f) (hL : 8 + (2 + 11) + 43 ≤ L) (hsz : ls.size = nL) (hW : (rest.map fun v => v.category).sum ≤ 8) (hdg : decode cc pc = .ok (.invokevirtual 418, 3)) (kk : ∀ (H1 : Heap) (locs1 : List Loc), mo_I G A s.heap (sb_C ai qs qb 20 u1.1 u1.2.1 u1.2.2 ++ tl) H1 locs1 → W p l e R s m args below meth c H1 locs1 cells slots Q (F0 m (pc + 3) ls (.ref (qs) :: rest))) (hc0 : cells + 0 ≤ kc := by first | exact Nat.zero_le _ | exact Nat.le_of_ble_eq_true rfl | assumption | omega) (hs0 : slots + 0 ≤ ks := by first | exact Nat.zero_le _ | exact Nat.le_of_ble_eq_true rfl | assumption | omega) : W p l e R s m args below meth c H locs cells slots Q (F0 m pc ls (.int a1 :: .ref qs :: rest)) :=
  gz_user0 hC.2.2.2.2.2.2.2.1 hI (va_runV (As := [.int a1]) (rest := rest) ⟨hC.1, hC.2.1, hC.2.2.1, hC.2.2.2.1, hC.2.2.2.2.1⟩ (w_sb20_app l G ai h0 bt cn fl a1 r1 u1 hz H.size) (cwV 1 hC.2.2.2.2.1 (lw_V q1671 q1672 q1673 q138 q1674) rfl rfl rfl (by decide +kernel) ⟨Nat.le_trans hf hC.2.2.2.2.2.2.2.2.1, Nat.le_trans hL hC.2.2.2.2.2.2.2.2.2.1⟩) ⟨gz_blind, (va_recv hC.2.2.2.2.2.2.1 hI.1 (ci := 16) (q0 := 0) rfl rfl), gz_pre0 hC hZ hI⟩ rfl rfl hsz rfl (lv_room hW) hdg ⟨Nat.le_trans hc0 hC.2.2.2.2.2.2.2.2.2.2.1, Nat.le_trans hs0 hC.2.2.2.2.2.2.2.2.2.2.2⟩) (fun r u H1 locs1 hp hI1 => by obtain ⟨rfl, rfl⟩ := hp; exact kk H1 locs1 hI1)
def f_sb20_len (bt : Nat → Int32) (cn : Int32) (fl : Int32) : Option Int32 := ov (f_sb20_len0 bt cn fl) (fun r1 => some r1)
set_option maxHeartbeats 4000000 in
theorem w_sb20_len (l : Launch) (G : va_G) (ai : Nat → ClassId) {s0 : State} {b0 : Addr} (h0 : mo_S0 s0 b0) {qs qb : Nat} {tl : va_W} (bt : Nat → Int32) (cn : Int32) (fl : Int32) (r0 : Int32) (hF : f_sb20_len bt cn fl = some r0) : rd_Met l G ai s0 yJ13_length cJ13_length 1 (some .int) ({ frames := 1, cells := 0, slots := 0, locals := 20 } : Room) [.ref qs] (sb_C ai qs qb 20 bt cn fl ++ tl) (.int r0) := by
  refine gz_body (Qc := fun _ => rd_Q (.int r0)) (fr := fun _ _ => False) (by decide) (Nat.le_of_ble_eq_true rfl) ?_
  intro p e s m args below meth c A ls hC hZ hr hI hl hnm
  have hx := hC.1
  have hb := hC.2.1
  have hl : lv_has ls 1 [(0, .ref qs)] := hl
  show W p l e _ s m args below meth c s.heap [] 0 0 (MQ below (rd_Q (.int r0)) args s 0 0 (fun _ => False)) (F0 m 0 ls [])
  rw [f_sb20_len] at hF
  refine lv_aload_n hx hb dJ13_length_0 rfl (lv_at hl 0 rfl) ?_
  obtain ⟨r1, hz2, hF⟩ := ov_some hF
  refine k_J13_sb20_len0 hC h0 hZ hI hz2 (Nat.le_of_ble_eq_true rfl) (Nat.le_of_ble_eq_true rfl) hl.1 (Nat.le_of_ble_eq_true rfl) dJ13_length_1 ?_
  have hF := Option.some.inj hF
  subst hF
  exact rd_iret hC hr rfl dJ13_length_4
theorem k_X0_sb20_len {p : Program} {l : Launch} {e : Env} {R : Room} {s s0 : State} {b0 : Addr} {m : MethodId} {args : Array Value} {below : List Frame} {meth : Method} {c : Code} {H : Heap} {locs : List Loc} {cells slots : Nat} {Q : State → Prop} {pc : Nat} {ls : Array Slot} {rest : List Value} {G : va_G} {ai : Nat → ClassId} {A : Nat → Prop} {cc : ByteArray} {nL f L kc ks : Nat} {qs qb : Nat} {tl : va_W} {bt : Nat → Int32} {cn : Int32} {fl : Int32}  {r1 : Int32} (hC : mo_C p R s m args meth c G ai A RX0 cc nL f L kc ks) (h0 : mo_S0 s0 b0) (hZ : mo_Z s0 A s) (hI : mo_I G A s.heap (sb_C ai qs qb 20 bt cn fl ++ tl) H locs) (hz : f_sb20_len bt cn fl = some r1) (hf : 1 + 1 ≤ f) (hL : 8 + (1 + 11) + 20 ≤ L) (hsz : ls.size = nL) (hW : (rest.map fun v => v.category).sum ≤ 8) (hdg : decode cc pc = .ok (.invokevirtual 415, 3)) (kk : W p l e R s m args below meth c H locs cells slots Q (F0 m (pc + 3) ls (.int r1 :: rest))) (hc0 : cells ≤ kc := by first | exact Nat.zero_le _ | exact Nat.le_of_ble_eq_true rfl | assumption | omega) (hs0 : slots ≤ ks := by first | exact Nat.zero_le _ | exact Nat.le_of_ble_eq_true rfl | assumption | omega) : W p l e R s m args below meth c H locs cells slots Q (F0 m pc ls (.ref qs :: rest)) :=
  rd_use (va_runV (As := []) (rest := rest) ⟨hC.1, hC.2.1, hC.2.2.1, hC.2.2.2.1, hC.2.2.2.2.1⟩ (w_sb20_len l G ai h0 bt cn fl r1 hz H.size) (cwV 0 hC.2.2.2.2.1 (lw_V q1670 q1537 q2436 q138 q1538) rfl rfl rfl (by decide +kernel) ⟨Nat.le_trans hf hC.2.2.2.2.2.2.2.2.1, Nat.le_trans hL hC.2.2.2.2.2.2.2.2.2.1⟩) ⟨gz_blind, (va_recv hC.2.2.2.2.2.2.1 hI.1 (ci := 16) (q0 := 0) rfl rfl), gz_pre0 hC hZ hI⟩ rfl rfl hsz rfl (lv_room hW) hdg ⟨Nat.le_trans hc0 hC.2.2.2.2.2.2.2.2.2.2.1, Nat.le_trans hs0 hC.2.2.2.2.2.2.2.2.2.2.2⟩) kk
def f_sb20_chr (bt : Nat → Int32) (cn : Int32) (fl : Int32) (a1 : Int32) : Option Int32 := ov (f_sb20_chr0 bt cn fl a1) (fun r1 => gd (gc r1) (some r1))
set_option maxHeartbeats 4000000 in
theorem w_sb20_chr (l : Launch) (G : va_G) (ai : Nat → ClassId) {s0 : State} {b0 : Addr} (h0 : mo_S0 s0 b0) {qs qb : Nat} {tl : va_W} (bt : Nat → Int32) (cn : Int32) (fl : Int32) (a1 : Int32) (r0 : Int32) (hF : f_sb20_chr bt cn fl a1 = some r0) : rd_Met l G ai s0 yJ13_charAt cJ13_charAt 2 (some .char) ({ frames := 3, cells := 0, slots := 0, locals := 67 } : Room) [.ref qs, .int a1] (sb_C ai qs qb 20 bt cn fl ++ tl) (.int r0) := by
  refine gz_body (Qc := fun _ => rd_Q (.int r0)) (fr := fun _ _ => False) (by decide) (Nat.le_of_ble_eq_true rfl) ?_
  intro p e s m args below meth c A ls hC hZ hr hI hl hnm
  have hx := hC.1
  have hb := hC.2.1
  have hl : lv_has ls 2 [(0, .ref qs), (1, .int a1)] := hl
  show W p l e _ s m args below meth c s.heap [] 0 0 (MQ below (rd_Q (.int r0)) args s 0 0 (fun _ => False)) (F0 m 0 ls [])
  rw [f_sb20_chr] at hF
  refine lv_aload_n hx hb dJ13_charAt_0 rfl (lv_at hl 0 rfl) ?_
  refine lv_iload_n hx hb dJ13_charAt_1 rfl (lv_at hl 1 rfl) ?_
  obtain ⟨r1, hz2, hF⟩ := ov_some hF
  refine k_J13_sb20_chr0 hC h0 hZ hI hz2 (Nat.le_of_ble_eq_true rfl) (Nat.le_of_ble_eq_true rfl) hl.1 (Nat.le_of_ble_eq_true rfl) dJ13_charAt_2 ?_
  obtain ⟨hg, hF⟩ := gd_some hF
  have hF := Option.some.inj hF
  subst hF
  exact rd_iret hC hr (gc_n hg) dJ13_charAt_5
theorem k_X0_sb20_chr {p : Program} {l : Launch} {e : Env} {R : Room} {s s0 : State} {b0 : Addr} {m : MethodId} {args : Array Value} {below : List Frame} {meth : Method} {c : Code} {H : Heap} {locs : List Loc} {cells slots : Nat} {Q : State → Prop} {pc : Nat} {ls : Array Slot} {rest : List Value} {G : va_G} {ai : Nat → ClassId} {A : Nat → Prop} {cc : ByteArray} {nL f L kc ks : Nat} {qs qb : Nat} {tl : va_W} {bt : Nat → Int32} {cn : Int32} {fl : Int32} {a1 : Int32}  {r1 : Int32} (hC : mo_C p R s m args meth c G ai A RX0 cc nL f L kc ks) (h0 : mo_S0 s0 b0) (hZ : mo_Z s0 A s) (hI : mo_I G A s.heap (sb_C ai qs qb 20 bt cn fl ++ tl) H locs) (hz : f_sb20_chr bt cn fl a1 = some r1) (hf : 3 + 1 ≤ f) (hL : 8 + (2 + 11) + 67 ≤ L) (hsz : ls.size = nL) (hW : (rest.map fun v => v.category).sum ≤ 8) (hdg : decode cc pc = .ok (.invokevirtual 425, 3)) (kk : W p l e R s m args below meth c H locs cells slots Q (F0 m (pc + 3) ls (.int r1 :: rest))) (hc0 : cells ≤ kc := by first | exact Nat.zero_le _ | exact Nat.le_of_ble_eq_true rfl | assumption | omega) (hs0 : slots ≤ ks := by first | exact Nat.zero_le _ | exact Nat.le_of_ble_eq_true rfl | assumption | omega) : W p l e R s m args below meth c H locs cells slots Q (F0 m pc ls (.int a1 :: .ref qs :: rest)) :=
  rd_use (va_runV (As := [.int a1]) (rest := rest) ⟨hC.1, hC.2.1, hC.2.2.1, hC.2.2.2.1, hC.2.2.2.2.1⟩ (w_sb20_chr l G ai h0 bt cn fl a1 r1 hz H.size) (cwV 1 hC.2.2.2.2.1 (lw_V q1715 q1716 q1717 q138 q1718) rfl rfl rfl (by decide +kernel) ⟨Nat.le_trans hf hC.2.2.2.2.2.2.2.2.1, Nat.le_trans hL hC.2.2.2.2.2.2.2.2.2.1⟩) ⟨gz_blind, (va_recv hC.2.2.2.2.2.2.1 hI.1 (ci := 16) (q0 := 0) rfl rfl), gz_pre0 hC hZ hI⟩ rfl rfl hsz rfl (lv_room hW) hdg ⟨Nat.le_trans hc0 hC.2.2.2.2.2.2.2.2.2.2.1, Nat.le_trans hs0 hC.2.2.2.2.2.2.2.2.2.2.2⟩) kk
def f_sb20_set (bt : Nat → Int32) (cn : Int32) (fl : Int32) (a1 : Int32) : Option ((Int32 × (Nat → Int32) × Int32 × Int32)) := ob (f_sb20_set0 bt cn fl a1) (fun r1 u2 => some (0, (u2.1, u2.2.1, u2.2.2)))
set_option maxHeartbeats 4000000 in
theorem w_sb20_set (l : Launch) (G : va_G) (ai : Nat → ClassId) {s0 : State} {b0 : Addr} (h0 : mo_S0 s0 b0) {qs qb : Nat} {tl : va_W} (bt : Nat → Int32) (cn : Int32) (fl : Int32) (a1 : Int32) (r0 : Int32) (u0 : (Nat → Int32) × Int32 × Int32) (hF : f_sb20_set bt cn fl a1 = some (r0, u0)) : gz_Mv l G ai s0 (fun (u : (Nat → Int32) × Int32 × Int32) => (sb_C ai qs qb 20 u.1 u.2.1 u.2.2 ++ tl)) yJ13_setLength cJ13_setLength 2 ({ frames := 2, cells := 0, slots := 0, locals := 43 } : Room) [.ref qs, .int a1] (sb_C ai qs qb 20 bt cn fl ++ tl) (fun (u : (Nat → Int32) × Int32 × Int32) => u = u0) 0 0 := by
  refine gz_body (Qc := fun A => va_Qv (fun (u : (Nat → Int32) × Int32 × Int32) => u = u0) (gw_E G ai (fun (u : (Nat → Int32) × Int32 × Int32) => (sb_C ai qs qb 20 u.1 u.2.1 u.2.2 ++ tl)) A) A) (fr := fun A => A) (by decide) (Nat.le_of_ble_eq_true rfl) ?_
  intro p e s m args below meth c A ls hC hZ hr hI hl hnm
  have hx := hC.1
  have hb := hC.2.1
  have hl : lv_has ls 2 [(0, .ref qs), (1, .int a1)] := hl
  show W p l e _ s m args below meth c s.heap [] 0 0 (MQ below (va_Qv (fun (u : (Nat → Int32) × Int32 × Int32) => u = u0) (gw_E G ai (fun (u : (Nat → Int32) × Int32 × Int32) => (sb_C ai qs qb 20 u.1 u.2.1 u.2.2 ++ tl)) A) A) args s 0 0 A) (F0 m 0 ls [])
  rw [f_sb20_set] at hF
  refine lv_aload_n hx hb dJ13_setLength_0 rfl (lv_at hl 0 rfl) ?_
  refine lv_iload_n hx hb dJ13_setLength_1 rfl (lv_at hl 1 rfl) ?_
  obtain ⟨r1, u2, hz3, hF⟩ := ob_some hF
  refine k_J13_sb20_set0 hC h0 hZ hI hz3 (Nat.le_of_ble_eq_true rfl) (Nat.le_of_ble_eq_true rfl) hl.1 (Nat.le_of_ble_eq_true rfl) dJ13_setLength_2 (fun H locs hI => ?_)
  cases hF
  exact W.vret hx hb hr (fun t ht hW => ⟨⟨_, rfl, rfl, by rw [ht]; exact hI.1, va_K.moved hW.alike hC.2.2.2.2.2.2.1, hI.2.1⟩, hI.2.2.F ht⟩) hI.2.2.2.2 dJ13_setLength_5 hC.2.2.2.2.2.1
theorem k_X0_sb20_set {p : Program} {l : Launch} {e : Env} {R : Room} {s s0 : State} {b0 : Addr} {m : MethodId} {args : Array Value} {below : List Frame} {meth : Method} {c : Code} {H : Heap} {locs : List Loc} {cells slots : Nat} {Q : State → Prop} {pc : Nat} {ls : Array Slot} {rest : List Value} {G : va_G} {ai : Nat → ClassId} {A : Nat → Prop} {cc : ByteArray} {nL f L kc ks : Nat} {qs qb : Nat} {tl : va_W} {bt : Nat → Int32} {cn : Int32} {fl : Int32} {a1 : Int32}  {r1 : Int32} {u1 : (Nat → Int32) × Int32 × Int32} (hC : mo_C p R s m args meth c G ai A RX0 cc nL f L kc ks) (h0 : mo_S0 s0 b0) (hZ : mo_Z s0 A s) (hI : mo_I G A s.heap (sb_C ai qs qb 20 bt cn fl ++ tl) H locs) (hz : f_sb20_set bt cn fl a1 = some (r1, u1)) (hf : 2 + 1 ≤ f) (hL : 8 + (2 + 11) + 43 ≤ L) (hsz : ls.size = nL) (hW : (rest.map fun v => v.category).sum ≤ 8) (hdg : decode cc pc = .ok (.invokevirtual 489, 3)) (kk : ∀ (H1 : Heap) (locs1 : List Loc), mo_I G A s.heap (sb_C ai qs qb 20 u1.1 u1.2.1 u1.2.2 ++ tl) H1 locs1 → W p l e R s m args below meth c H1 locs1 cells slots Q (F0 m (pc + 3) ls (rest))) (hc0 : cells + 0 ≤ kc := by first | exact Nat.zero_le _ | exact Nat.le_of_ble_eq_true rfl | assumption | omega) (hs0 : slots + 0 ≤ ks := by first | exact Nat.zero_le _ | exact Nat.le_of_ble_eq_true rfl | assumption | omega) : W p l e R s m args below meth c H locs cells slots Q (F0 m pc ls (.int a1 :: .ref qs :: rest)) :=
  gz_usev0 hC.2.2.2.2.2.2.2.1 hI (va_runV (As := [.int a1]) (rest := rest) ⟨hC.1, hC.2.1, hC.2.2.1, hC.2.2.2.1, hC.2.2.2.2.1⟩ (w_sb20_set l G ai h0 bt cn fl a1 r1 u1 hz H.size) (cwV 1 hC.2.2.2.2.1 (lw_V q1789 q1790 q1791 q138 q1792) rfl rfl rfl (by decide +kernel) ⟨Nat.le_trans hf hC.2.2.2.2.2.2.2.2.1, Nat.le_trans hL hC.2.2.2.2.2.2.2.2.2.1⟩) ⟨gz_blind, (va_recv hC.2.2.2.2.2.2.1 hI.1 (ci := 16) (q0 := 0) rfl rfl), gz_pre0 hC hZ hI⟩ rfl rfl hsz rfl (lv_room hW) hdg ⟨Nat.le_trans hc0 hC.2.2.2.2.2.2.2.2.2.2.1, Nat.le_trans hs0 hC.2.2.2.2.2.2.2.2.2.2.2⟩) (fun u H1 locs1 hp hI1 => by cases hp; exact kk H1 locs1 hI1)

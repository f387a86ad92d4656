set_option maxRecDepth 100000
def f_nw_pchk (a0 : Int32) (a1 : Int32) : Option Int32 := gd (decide (¬ (a0 < 0))) (gd (decide (a0 < a1)) (some a0))
set_option maxHeartbeats 4000000 in
theorem w_nw_pchk (l : Launch) (G : va_G) (ai : Nat → ClassId) {s0 : State} {b0 : Addr} (h0 : mo_S0 s0 b0) {tl : va_W} {fm : Nat} (a0 : Int32) (a1 : Int32) (r0 : Int32) (hF : f_nw_pchk a0 a1 = some r0) : rd_Met l G ai s0 yJ21_checkIndex cJ21_checkIndex 3 (some .int) ({ frames := 0, cells := 0, slots := 0, locals := 0 } : Room) [.int a0, .int a1, .ref fm] tl (.int r0) := by
  refine gz_body (Qc := fun _ => rd_Q (.int r0)) (fr := fun _ _ => False) (by decide) (Nat.le_of_ble_eq_true rfl) ?_
  intro p e s m args below meth c A ls hC hZ hr hI hl hnm
  have hx := hC.1
  have hb := hC.2.1
  have hl : lv_has ls 3 [(0, .int a0), (1, .int a1), (2, .ref fm)] := hl
  show W p l e _ s m args below meth c s.heap [] 0 0 (MQ below (rd_Q (.int r0)) args s 0 0 (fun _ => False)) (F0 m 0 ls [])
  rw [f_nw_pchk] at hF
  refine lv_iload_n hx hb dJ21_checkIndex_0 rfl (lv_at hl 0 rfl) ?_
  obtain ⟨hg2, hF⟩ := gd_some hF
  have c1 := of_decide_eq_true hg2
  refine lv_if_lt (tgt := 9) hx hb dJ21_checkIndex_1 (by decide) (fun h9 => ?_) (fun h9 => ?_)
  · exact absurd h9 c1
  · refine lv_iload_n hx hb dJ21_checkIndex_4 rfl (lv_at hl 0 rfl) ?_
    refine lv_iload_n hx hb dJ21_checkIndex_5 rfl (lv_at hl 1 rfl) ?_
    obtain ⟨hg4, hF⟩ := gd_some hF
    have c3 := of_decide_eq_true hg4
    refine lv_icmp_lt (tgt := 16) hx hb dJ21_checkIndex_6 (by decide) (fun h9 => ?_) (fun h9 => ?_)
    · refine lv_iload_n hx hb dJ21_checkIndex_16 rfl (lv_at hl 0 rfl) ?_
      have hF := Option.some.inj hF
      subst hF
      exact rd_iret hC hr rfl dJ21_checkIndex_17
    · exact absurd c3 h9
theorem k_J14_nw_pchk {p : Program} {l : Launch} {e : Env} {R : Room} {s s0 : State} {b0 : Addr} {m : MethodId} {args : Array Value} {below : List Frame} {meth : Method} {c : Code} {H : Heap} {locs : List Loc} {cells slots : Nat} {Q : State → Prop} {pc : Nat} {ls : Array Slot} {rest : List Value} {G : va_G} {ai : Nat → ClassId} {A : Nat → Prop} {cc : ByteArray} {nL f L kc ks : Nat} {tl : va_W} {fm : Nat}  {a0 : Int32} {a1 : Int32}  {r1 : Int32} (hC : mo_C p R s m args meth c G ai A RJ14 cc nL f L kc ks) (h0 : mo_S0 s0 b0) (hZ : mo_Z s0 A s) (hI : mo_I G A s.heap tl H locs) (hz : f_nw_pchk a0 a1 = some r1) (hf : 0 + 1 ≤ f) (hL : 8 + (3 + 11) + 0 ≤ L) (hsz : ls.size = nL) (hW : (rest.map fun v => v.category).sum ≤ 8) (hdg : decode cc pc = .ok (.invokestatic 1059, 3)) (kk : W p l e R s m args below meth c H locs cells slots Q (F0 m (pc + 3) ls (.int r1 :: rest))) (hc0 : cells ≤ kc := by first | exact Nat.zero_le _ | exact Nat.le_of_ble_eq_true rfl | assumption | omega) (hs0 : slots ≤ ks := by first | exact Nat.zero_le _ | exact Nat.le_of_ble_eq_true rfl | assumption | omega) : W p l e R s m args below meth c H locs cells slots Q (F0 m pc ls (.ref fm :: .int a1 :: .int a0 :: rest)) :=
  rd_use (va_runS (As := [.int a0, .int a1, .ref fm]) (rest := rest) ⟨hC.1, hC.2.1, hC.2.2.1, hC.2.2.2.1, hC.2.2.2.2.1⟩ (w_nw_pchk l G ai h0 a0 a1 r1 hz H.size) (va_cwS 3 hC.2.2.2.2.1 (lw_S q1099 q1100 q148 q1101) rfl rfl rfl (by decide +kernel) ⟨Nat.le_trans hf hC.2.2.2.2.2.2.2.2.1, Nat.le_trans hL hC.2.2.2.2.2.2.2.2.2.1⟩) ⟨gz_blind, gz_pre0 hC hZ hI⟩ rfl rfl hsz rfl (lv_room hW) hdg ⟨Nat.le_trans hc0 hC.2.2.2.2.2.2.2.2.2.2.1, Nat.le_trans hs0 hC.2.2.2.2.2.2.2.2.2.2.2⟩) kk
set_option maxHeartbeats 4000000 in
theorem w_nw_pchkN (l : Launch) (G : va_G) (ai : Nat → ClassId) {s0 : State} {b0 : Addr} (h0 : mo_S0 s0 b0) {tl : va_W} (a0 : Int32) (a1 : Int32) (r0 : Int32) (hF : f_nw_pchk a0 a1 = some r0) : rd_Met l G ai s0 yJ21_checkIndex cJ21_checkIndex 3 (some .int) ({ frames := 0, cells := 0, slots := 0, locals := 0 } : Room) [.int a0, .int a1, .null] tl (.int r0) := by
  refine gz_body (Qc := fun _ => rd_Q (.int r0)) (fr := fun _ _ => False) (by decide) (Nat.le_of_ble_eq_true rfl) ?_
  intro p e s m args below meth c A ls hC hZ hr hI hl hnm
  have hx := hC.1
  have hb := hC.2.1
  have hl : lv_has ls 3 [(0, .int a0), (1, .int a1), (2, .null)] := hl
  show W p l e _ s m args below meth c s.heap [] 0 0 (MQ below (rd_Q (.int r0)) args s 0 0 (fun _ => False)) (F0 m 0 ls [])
  rw [f_nw_pchk] at hF
  refine lv_iload_n hx hb dJ21_checkIndex_0 rfl (lv_at hl 0 rfl) ?_
  obtain ⟨hg2, hF⟩ := gd_some hF
  have c1 := of_decide_eq_true hg2
  refine lv_if_lt (tgt := 9) hx hb dJ21_checkIndex_1 (by decide) (fun h9 => ?_) (fun h9 => ?_)
  · exact absurd h9 c1
  · refine lv_iload_n hx hb dJ21_checkIndex_4 rfl (lv_at hl 0 rfl) ?_
    refine lv_iload_n hx hb dJ21_checkIndex_5 rfl (lv_at hl 1 rfl) ?_
    obtain ⟨hg4, hF⟩ := gd_some hF
    have c3 := of_decide_eq_true hg4
    refine lv_icmp_lt (tgt := 16) hx hb dJ21_checkIndex_6 (by decide) (fun h9 => ?_) (fun h9 => ?_)
    · refine lv_iload_n hx hb dJ21_checkIndex_16 rfl (lv_at hl 0 rfl) ?_
      have hF := Option.some.inj hF
      subst hF
      exact rd_iret hC hr rfl dJ21_checkIndex_17
    · exact absurd c3 h9
theorem k_J14_nw_pchkN {p : Program} {l : Launch} {e : Env} {R : Room} {s s0 : State} {b0 : Addr} {m : MethodId} {args : Array Value} {below : List Frame} {meth : Method} {c : Code} {H : Heap} {locs : List Loc} {cells slots : Nat} {Q : State → Prop} {pc : Nat} {ls : Array Slot} {rest : List Value} {G : va_G} {ai : Nat → ClassId} {A : Nat → Prop} {cc : ByteArray} {nL f L kc ks : Nat} {tl : va_W}  {a0 : Int32} {a1 : Int32}  {r1 : Int32} (hC : mo_C p R s m args meth c G ai A RJ14 cc nL f L kc ks) (h0 : mo_S0 s0 b0) (hZ : mo_Z s0 A s) (hI : mo_I G A s.heap tl H locs) (hz : f_nw_pchk a0 a1 = some r1) (hf : 0 + 1 ≤ f) (hL : 8 + (3 + 11) + 0 ≤ L) (hsz : ls.size = nL) (hW : (rest.map fun v => v.category).sum ≤ 8) (hdg : decode cc pc = .ok (.invokestatic 1059, 3)) (kk : W p l e R s m args below meth c H locs cells slots Q (F0 m (pc + 3) ls (.int r1 :: rest))) (hc0 : cells ≤ kc := by first | exact Nat.zero_le _ | exact Nat.le_of_ble_eq_true rfl | assumption | omega) (hs0 : slots ≤ ks := by first | exact Nat.zero_le _ | exact Nat.le_of_ble_eq_true rfl | assumption | omega) : W p l e R s m args below meth c H locs cells slots Q (F0 m pc ls (.null :: .int a1 :: .int a0 :: rest)) :=
  rd_use (va_runS (As := [.int a0, .int a1, .null]) (rest := rest) ⟨hC.1, hC.2.1, hC.2.2.1, hC.2.2.2.1, hC.2.2.2.2.1⟩ (w_nw_pchkN l G ai h0 a0 a1 r1 hz H.size) (va_cwS 3 hC.2.2.2.2.1 (lw_S q1099 q1100 q148 q1101) rfl rfl rfl (by decide +kernel) ⟨Nat.le_trans hf hC.2.2.2.2.2.2.2.2.1, Nat.le_trans hL hC.2.2.2.2.2.2.2.2.2.1⟩) ⟨gz_blind, gz_pre0 hC hZ hI⟩ rfl rfl hsz rfl (lv_room hW) hdg ⟨Nat.le_trans hc0 hC.2.2.2.2.2.2.2.2.2.2.1, Nat.le_trans hs0 hC.2.2.2.2.2.2.2.2.2.2.2⟩) kk
def f_nw_chk (a0 : Int32) (a1 : Int32) : Option Int32 := ov (f_nw_pchk a0 a1) (fun r1 => some 0)
set_option maxHeartbeats 4000000 in
theorem w_nw_chk (l : Launch) (G : va_G) (ai : Nat → ClassId) {s0 : State} {b0 : Addr} (h0 : mo_S0 s0 b0) {tl : va_W} (a0 : Int32) (a1 : Int32) (r0 : Int32) (hF : f_nw_chk a0 a1 = some r0) : rv_Met l G ai s0 yJ14_checkIndex cJ14_checkIndex 2 ({ frames := 1, cells := 0, slots := 0, locals := 22 } : Room) [.int a0, .int a1] tl := by
  refine gz_body (Qc := fun _ => rv_Q) (fr := fun _ _ => False) (by decide) (Nat.le_of_ble_eq_true rfl) ?_
  intro p e s m args below meth c A ls hC hZ hr hI hl hnm
  have hx := hC.1
  have hb := hC.2.1
  have hl : lv_has ls 2 [(0, .int a0), (1, .int a1)] := hl
  show W p l e _ s m args below meth c s.heap [] 0 0 (MQ below rv_Q args s 0 0 (fun _ => False)) (F0 m 0 ls [])
  rw [f_nw_chk] at hF
  refine lv_iload_n hx hb dJ14_checkIndex_0 rfl (lv_at hl 0 rfl) ?_
  refine lv_iload_n hx hb dJ14_checkIndex_1 rfl (lv_at hl 1 rfl) ?_
  rcases zs_fm h0 hZ with hfm | ⟨fm, hfm⟩
  · refine va_gets hx hb hfm hI.2.2 hC.2.2.2.1 (hC.2.2.2.2.1 _ q1097) (fun _ h9 => h9) dJ14_checkIndex_2 ?_
    obtain ⟨r1, hz2, hF⟩ := ov_some hF
    refine k_J14_nw_pchkN hC h0 hZ hI hz2 (Nat.le_of_ble_eq_true rfl) (Nat.le_of_ble_eq_true rfl) hl.1 (Nat.le_of_ble_eq_true rfl) dJ14_checkIndex_5 ?_
    refine lv_pop hx hb dJ14_checkIndex_8 rfl ?_
    exact rd_vret hC hr dJ14_checkIndex_9
  · refine va_gets hx hb hfm hI.2.2 hC.2.2.2.1 (hC.2.2.2.2.1 _ q1097) (fun _ h9 => h9) dJ14_checkIndex_2 ?_
    obtain ⟨r1, hz2, hF⟩ := ov_some hF
    refine k_J14_nw_pchk hC h0 hZ hI hz2 (Nat.le_of_ble_eq_true rfl) (Nat.le_of_ble_eq_true rfl) hl.1 (Nat.le_of_ble_eq_true rfl) dJ14_checkIndex_5 ?_
    refine lv_pop hx hb dJ14_checkIndex_8 rfl ?_
    exact rd_vret hC hr dJ14_checkIndex_9
theorem k_J12_nw_chk {p : Program} {l : Launch} {e : Env} {R : Room} {s s0 : State} {b0 : Addr} {m : MethodId} {args : Array Value} {below : List Frame} {meth : Method} {c : Code} {H : Heap} {locs : List Loc} {cells slots : Nat} {Q : State → Prop} {pc : Nat} {ls : Array Slot} {rest : List Value} {G : va_G} {ai : Nat → ClassId} {A : Nat → Prop} {cc : ByteArray} {nL f L kc ks : Nat} {tl : va_W}  {a0 : Int32} {a1 : Int32}  {r1 : Int32} (hC : mo_C p R s m args meth c G ai A RJ12 cc nL f L kc ks) (h0 : mo_S0 s0 b0) (hZ : mo_Z s0 A s) (hI : mo_I G A s.heap tl H locs) (hz : f_nw_chk a0 a1 = some r1) (hf : 1 + 1 ≤ f) (hL : 8 + (2 + 11) + 22 ≤ L) (hsz : ls.size = nL) (hW : (rest.map fun v => v.category).sum ≤ 8) (hdg : decode cc pc = .ok (.invokestatic 144, 3)) (kk : W p l e R s m args below meth c H locs cells slots Q (F0 m (pc + 3) ls (rest))) (hc0 : cells ≤ kc := by first | exact Nat.zero_le _ | exact Nat.le_of_ble_eq_true rfl | assumption | omega) (hs0 : slots ≤ ks := by first | exact Nat.zero_le _ | exact Nat.le_of_ble_eq_true rfl | assumption | omega) : W p l e R s m args below meth c H locs cells slots Q (F0 m pc ls (.int a1 :: .int a0 :: rest)) :=
  rv_use (va_runS (As := [.int a0, .int a1]) (rest := rest) ⟨hC.1, hC.2.1, hC.2.2.1, hC.2.2.2.1, hC.2.2.2.2.1⟩ (w_nw_chk l G ai h0 a0 a1 r1 hz H.size) (va_cwS 2 hC.2.2.2.2.1 (lw_S q1723 q1095 q139 q1096) rfl rfl rfl (by decide +kernel) ⟨Nat.le_trans hf hC.2.2.2.2.2.2.2.2.1, Nat.le_trans hL hC.2.2.2.2.2.2.2.2.2.1⟩) ⟨gz_blind, gz_pre0 hC hZ hI⟩ rfl rfl hsz rfl (lv_room hW) hdg ⟨Nat.le_trans hc0 hC.2.2.2.2.2.2.2.2.2.2.1, Nat.le_trans hs0 hC.2.2.2.2.2.2.2.2.2.2.2⟩) kk
theorem k_J15_nw_chk {p : Program} {l : Launch} {e : Env} {R : Room} {s s0 : State} {b0 : Addr} {m : MethodId} {args : Array Value} {below : List Frame} {meth : Method} {c : Code} {H : Heap} {locs : List Loc} {cells slots : Nat} {Q : State → Prop} {pc : Nat} {ls : Array Slot} {rest : List Value} {G : va_G} {ai : Nat → ClassId} {A : Nat → Prop} {cc : ByteArray} {nL f L kc ks : Nat} {tl : va_W}  {a0 : Int32} {a1 : Int32}  {r1 : Int32} (hC : mo_C p R s m args meth c G ai A RJ15 cc nL f L kc ks) (h0 : mo_S0 s0 b0) (hZ : mo_Z s0 A s) (hI : mo_I G A s.heap tl H locs) (hz : f_nw_chk a0 a1 = some r1) (hf : 1 + 1 ≤ f) (hL : 8 + (2 + 11) + 22 ≤ L) (hsz : ls.size = nL) (hW : (rest.map fun v => v.category).sum ≤ 8) (hdg : decode cc pc = .ok (.invokestatic 414, 3)) (kk : W p l e R s m args below meth c H locs cells slots Q (F0 m (pc + 3) ls (rest))) (hc0 : cells ≤ kc := by first | exact Nat.zero_le _ | exact Nat.le_of_ble_eq_true rfl | assumption | omega) (hs0 : slots ≤ ks := by first | exact Nat.zero_le _ | exact Nat.le_of_ble_eq_true rfl | assumption | omega) : W p l e R s m args below meth c H locs cells slots Q (F0 m pc ls (.int a1 :: .int a0 :: rest)) :=
  rv_use (va_runS (As := [.int a0, .int a1]) (rest := rest) ⟨hC.1, hC.2.1, hC.2.2.1, hC.2.2.2.1, hC.2.2.2.2.1⟩ (w_nw_chk l G ai h0 a0 a1 r1 hz H.size) (va_cwS 2 hC.2.2.2.2.1 (lw_S q1111 q1095 q139 q1096) rfl rfl rfl (by decide +kernel) ⟨Nat.le_trans hf hC.2.2.2.2.2.2.2.2.1, Nat.le_trans hL hC.2.2.2.2.2.2.2.2.2.1⟩) ⟨gz_blind, gz_pre0 hC hZ hI⟩ rfl rfl hsz rfl (lv_room hW) hdg ⟨Nat.le_trans hc0 hC.2.2.2.2.2.2.2.2.2.2.1, Nat.le_trans hs0 hC.2.2.2.2.2.2.2.2.2.2.2⟩) kk
theorem k_J20_nw_chk {p : Program} {l : Launch} {e : Env} {R : Room} {s s0 : State} {b0 : Addr} {m : MethodId} {args : Array Value} {below : List Frame} {meth : Method} {c : Code} {H : Heap} {locs : List Loc} {cells slots : Nat} {Q : State → Prop} {pc : Nat} {ls : Array Slot} {rest : List Value} {G : va_G} {ai : Nat → ClassId} {A : Nat → Prop} {cc : ByteArray} {nL f L kc ks : Nat} {tl : va_W}  {a0 : Int32} {a1 : Int32}  {r1 : Int32} (hC : mo_C p R s m args meth c G ai A RJ20 cc nL f L kc ks) (h0 : mo_S0 s0 b0) (hZ : mo_Z s0 A s) (hI : mo_I G A s.heap tl H locs) (hz : f_nw_chk a0 a1 = some r1) (hf : 1 + 1 ≤ f) (hL : 8 + (2 + 11) + 22 ≤ L) (hsz : ls.size = nL) (hW : (rest.map fun v => v.category).sum ≤ 8) (hdg : decode cc pc = .ok (.invokestatic 9, 3)) (kk : W p l e R s m args below meth c H locs cells slots Q (F0 m (pc + 3) ls (rest))) (hc0 : cells ≤ kc := by first | exact Nat.zero_le _ | exact Nat.le_of_ble_eq_true rfl | assumption | omega) (hs0 : slots ≤ ks := by first | exact Nat.zero_le _ | exact Nat.le_of_ble_eq_true rfl | assumption | omega) : W p l e R s m args below meth c H locs cells slots Q (F0 m pc ls (.int a1 :: .int a0 :: rest)) :=
  rv_use (va_runS (As := [.int a0, .int a1]) (rest := rest) ⟨hC.1, hC.2.1, hC.2.2.1, hC.2.2.2.1, hC.2.2.2.2.1⟩ (w_nw_chk l G ai h0 a0 a1 r1 hz H.size) (va_cwS 2 hC.2.2.2.2.1 (lw_S q1094 q1095 q139 q1096) rfl rfl rfl (by decide +kernel) ⟨Nat.le_trans hf hC.2.2.2.2.2.2.2.2.1, Nat.le_trans hL hC.2.2.2.2.2.2.2.2.2.1⟩) ⟨gz_blind, gz_pre0 hC hZ hI⟩ rfl rfl hsz rfl (lv_room hW) hdg ⟨Nat.le_trans hc0 hC.2.2.2.2.2.2.2.2.2.2.1, Nat.le_trans hs0 hC.2.2.2.2.2.2.2.2.2.2.2⟩) kk
def f_nw_cat (a1 : Int32) : Option Int32 := ov (f_nw_chk a1 4) (fun r1 => gd (gi a1 4) (gd (gc ((((nwf a1.toNatClampNeg) &&& 255).toUInt32 % 65536).toInt32)) (some ((((nwf a1.toNatClampNeg) &&& 255).toUInt32 % 65536).toInt32))))
set_option maxHeartbeats 4000000 in
theorem w_nw_cat (l : Launch) (G : va_G) (ai : Nat → ClassId) {s0 : State} {b0 : Addr} (h0 : mo_S0 s0 b0) {tl : va_W} (a1 : Int32) (r0 : Int32) (hF : f_nw_cat a1 = some r0) : rd_Met l G ai s0 yJ20_charAt cJ20_charAt 2 (some .char) ({ frames := 2, cells := 0, slots := 0, locals := 43 } : Room) [.ref (nwb s0 b0), .int a1] tl (.int r0) := by
  refine gz_body (Qc := fun _ => rd_Q (.int r0)) (fr := fun _ _ => False) (by decide) (Nat.le_of_ble_eq_true rfl) ?_
  intro p e s m args below meth c A ls hC hZ hr hI hl hnm
  have hx := hC.1
  have hb := hC.2.1
  have hl : lv_has ls 2 [(0, .ref (nwb s0 b0)), (1, .int a1)] := hl
  show W p l e _ s m args below meth c s.heap [] 0 0 (MQ below (rd_Q (.int r0)) args s 0 0 (fun _ => False)) (F0 m 0 ls [])
  rw [f_nw_cat] at hF
  refine lv_iload_n hx hb dJ20_charAt_0 rfl (lv_at hl 1 rfl) ?_
  refine lv_aload_n hx hb dJ20_charAt_1 rfl (lv_at hl 0 rfl) ?_
  refine va_tlen hx hb (nw_T h0 hZ).2 hI.2.2 (v := 4) rfl dJ20_charAt_2 ?_
  obtain ⟨r1, hz2, hF⟩ := ov_some hF
  refine k_J20_nw_chk hC h0 hZ hI hz2 (Nat.le_of_ble_eq_true rfl) (Nat.le_of_ble_eq_true rfl) hl.1 (Nat.le_of_ble_eq_true rfl) dJ20_charAt_3 ?_
  refine lv_aload_n hx hb dJ20_charAt_6 rfl (lv_at hl 0 rfl) ?_
  refine lv_iload_n hx hb dJ20_charAt_7 rfl (lv_at hl 1 rfl) ?_
  obtain ⟨hg3, hF⟩ := gd_some hF
  refine va_tb hx hb (nw_T h0 hZ).2 hI.2.2 (gi_in hg3) rfl dJ20_charAt_8 ?_
  refine lv_sipush (v := 255) hx hb dJ20_charAt_9 (by decide) ?_
  refine lv_iand hx hb dJ20_charAt_12 ?_
  refine lv_i2c hx hb dJ20_charAt_13 rfl ?_
  obtain ⟨hg, hF⟩ := gd_some hF
  have hF := Option.some.inj hF
  subst hF
  exact rd_iret hC hr (gc_n hg) dJ20_charAt_14
theorem k_J14_nw_cat {p : Program} {l : Launch} {e : Env} {R : Room} {s s0 : State} {b0 : Addr} {m : MethodId} {args : Array Value} {below : List Frame} {meth : Method} {c : Code} {H : Heap} {locs : List Loc} {cells slots : Nat} {Q : State → Prop} {pc : Nat} {ls : Array Slot} {rest : List Value} {G : va_G} {ai : Nat → ClassId} {A : Nat → Prop} {cc : ByteArray} {nL f L kc ks : Nat} {tl : va_W}  {a1 : Int32}  {r1 : Int32} (hC : mo_C p R s m args meth c G ai A RJ14 cc nL f L kc ks) (h0 : mo_S0 s0 b0) (hZ : mo_Z s0 A s) (hI : mo_I G A s.heap tl H locs) (hz : f_nw_cat a1 = some r1) (hf : 2 + 1 ≤ f) (hL : 8 + (2 + 11) + 43 ≤ L) (hsz : ls.size = nL) (hW : (rest.map fun v => v.category).sum ≤ 8) (hdg : decode cc pc = .ok (.invokestatic 495, 3)) (kk : W p l e R s m args below meth c H locs cells slots Q (F0 m (pc + 3) ls (.int r1 :: rest))) (hc0 : cells ≤ kc := by first | exact Nat.zero_le _ | exact Nat.le_of_ble_eq_true rfl | assumption | omega) (hs0 : slots ≤ ks := by first | exact Nat.zero_le _ | exact Nat.le_of_ble_eq_true rfl | assumption | omega) : W p l e R s m args below meth c H locs cells slots Q (F0 m pc ls (.int a1 :: .ref (nwb s0 b0) :: rest)) :=
  rd_use (va_runS (As := [.ref (nwb s0 b0), .int a1]) (rest := rest) ⟨hC.1, hC.2.1, hC.2.2.1, hC.2.2.2.1, hC.2.2.2.2.1⟩ (w_nw_cat l G ai h0 a1 r1 hz H.size) (va_cwS 2 hC.2.2.2.2.1 (lw_S q1091 q1092 q147 q1093) rfl rfl rfl (by decide +kernel) ⟨Nat.le_trans hf hC.2.2.2.2.2.2.2.2.1, Nat.le_trans hL hC.2.2.2.2.2.2.2.2.2.1⟩) ⟨gz_blind, gz_pre0 hC hZ hI⟩ rfl rfl hsz rfl (lv_room hW) hdg ⟨Nat.le_trans hc0 hC.2.2.2.2.2.2.2.2.2.2.1, Nat.le_trans hs0 hC.2.2.2.2.2.2.2.2.2.2.2⟩) kk
def f_nw_isL : Option Int32 := some 1
set_option maxHeartbeats 4000000 in
theorem w_nw_isL (l : Launch) (G : va_G) (ai : Nat → ClassId) {s0 : State} {b0 : Addr} (h0 : mo_S0 s0 b0) {tl : va_W} (r0 : Int32) (hF : f_nw_isL = some r0) : rd_Met l G ai s0 yJ14_isLatin1 cJ14_isLatin1 1 (some .boolean) ({ frames := 0, cells := 0, slots := 0, locals := 0 } : Room) [.ref (nwv s0 b0)] tl (.int r0) := by
  refine gz_body (Qc := fun _ => rd_Q (.int r0)) (fr := fun _ _ => False) (by decide) (Nat.le_of_ble_eq_true rfl) ?_
  intro p e s m args below meth c A ls hC hZ hr hI hl hnm
  have hx := hC.1
  have hb := hC.2.1
  have hl : lv_has ls 1 [(0, .ref (nwv s0 b0))] := hl
  show W p l e _ s m args below meth c s.heap [] 0 0 (MQ below (rd_Q (.int r0)) args s 0 0 (fun _ => False)) (F0 m 0 ls [])
  rw [f_nw_isL] at hF
  refine va_gets hx hb (zs_cs h0 hZ) hI.2.2 hC.2.2.2.1 (hC.2.2.2.2.1 _ q1090) (fun _ h9 => h9) dJ14_isLatin1_0 ?_
  refine lv_if_eq (tgt := 17) hx hb dJ14_isLatin1_3 (by decide) (fun h9 => ?_) (fun h9 => ?_)
  · exact absurd h9 (by decide)
  · refine lv_aload_n hx hb dJ14_isLatin1_6 rfl (lv_at hl 0 rfl) ?_
    refine vk_getf hx hb (nw_cod h0 hZ) hI.2.2 hC.2.2.2.1 (hC.2.2.2.2.1 _ q1562) (fun _ h9 => h9) dJ14_isLatin1_7 ?_
    refine lv_if_ne (tgt := 17) hx hb dJ14_isLatin1_10 (by decide) (fun h9 => ?_) (fun h9 => ?_)
    · exact absurd h9 (by decide)
    · refine lv_iconst (v := 1) hx hb dJ14_isLatin1_13 (by decide) ?_
      refine lv_goto (tgt := 18) hx hb dJ14_isLatin1_14 (by decide) ?_
      have hF := Option.some.inj hF
      subst hF
      exact rd_iret hC hr rfl dJ14_isLatin1_18
theorem k_J14_nw_isL {p : Program} {l : Launch} {e : Env} {R : Room} {s s0 : State} {b0 : Addr} {m : MethodId} {args : Array Value} {below : List Frame} {meth : Method} {c : Code} {H : Heap} {locs : List Loc} {cells slots : Nat} {Q : State → Prop} {pc : Nat} {ls : Array Slot} {rest : List Value} {G : va_G} {ai : Nat → ClassId} {A : Nat → Prop} {cc : ByteArray} {nL f L kc ks : Nat} {tl : va_W}   {r1 : Int32} (hC : mo_C p R s m args meth c G ai A RJ14 cc nL f L kc ks) (h0 : mo_S0 s0 b0) (hZ : mo_Z s0 A s) (hI : mo_I G A s.heap tl H locs) (hz : f_nw_isL = some r1) (hf : 0 + 1 ≤ f) (hL : 8 + (1 + 11) + 0 ≤ L) (hsz : ls.size = nL) (hW : (rest.map fun v => v.category).sum ≤ 8) (hdg : decode cc pc = .ok (.invokevirtual 492, 3)) (kk : W p l e R s m args below meth c H locs cells slots Q (F0 m (pc + 3) ls (.int r1 :: rest))) (hc0 : cells ≤ kc := by first | exact Nat.zero_le _ | exact Nat.le_of_ble_eq_true rfl | assumption | omega) (hs0 : slots ≤ ks := by first | exact Nat.zero_le _ | exact Nat.le_of_ble_eq_true rfl | assumption | omega) : W p l e R s m args below meth c H locs cells slots Q (F0 m pc ls (.ref (nwv s0 b0) :: rest)) :=
  rd_use (va_runV (As := []) (rest := rest) ⟨hC.1, hC.2.1, hC.2.2.1, hC.2.2.2.1, hC.2.2.2.2.1⟩ (w_nw_isL l G ai h0 r1 hz H.size) (cwV 0 hC.2.2.2.2.1 (lw_V q1086 q1087 q1088 q139 q1089) rfl rfl rfl (by decide +kernel) ⟨Nat.le_trans hf hC.2.2.2.2.2.2.2.2.1, Nat.le_trans hL hC.2.2.2.2.2.2.2.2.2.1⟩) ⟨gz_blind, (va_Orecv (nw_O h0 hZ) hI.2.2), gz_pre0 hC hZ hI⟩ rfl rfl hsz rfl (lv_room hW) hdg ⟨Nat.le_trans hc0 hC.2.2.2.2.2.2.2.2.2.2.1, Nat.le_trans hs0 hC.2.2.2.2.2.2.2.2.2.2.2⟩) kk
def f_nw_charAt (a1 : Int32) : Option Int32 := ov (f_nw_isL) (fun r1 => gd (decide (¬ (r1 = 0))) (ov (f_nw_cat a1) (fun r5 => gd (gc r5) (some r5))))
set_option maxHeartbeats 4000000 in
theorem w_nw_charAt (l : Launch) (G : va_G) (ai : Nat → ClassId) {s0 : State} {b0 : Addr} (h0 : mo_S0 s0 b0) {tl : va_W} (a1 : Int32) (r0 : Int32) (hF : f_nw_charAt a1 = some r0) : rd_Met l G ai s0 yJ14_charAt cJ14_charAt 2 (some .char) ({ frames := 3, cells := 0, slots := 0, locals := 64 } : Room) [.ref (nwv s0 b0), .int a1] tl (.int r0) := by
  refine gz_body (Qc := fun _ => rd_Q (.int r0)) (fr := fun _ _ => False) (by decide) (Nat.le_of_ble_eq_true rfl) ?_
  intro p e s m args below meth c A ls hC hZ hr hI hl hnm
  have hx := hC.1
  have hb := hC.2.1
  have hl : lv_has ls 2 [(0, .ref (nwv s0 b0)), (1, .int a1)] := hl
  show W p l e _ s m args below meth c s.heap [] 0 0 (MQ below (rd_Q (.int r0)) args s 0 0 (fun _ => False)) (F0 m 0 ls [])
  rw [f_nw_charAt] at hF
  refine lv_aload_n hx hb dJ14_charAt_0 rfl (lv_at hl 0 rfl) ?_
  obtain ⟨r1, hz2, hF⟩ := ov_some hF
  refine k_J14_nw_isL hC h0 hZ hI hz2 (Nat.le_of_ble_eq_true rfl) (Nat.le_of_ble_eq_true rfl) hl.1 (Nat.le_of_ble_eq_true rfl) dJ14_charAt_1 ?_
  obtain ⟨hg4, hF⟩ := gd_some hF
  have c3 := of_decide_eq_true hg4
  refine lv_if_eq (tgt := 16) hx hb dJ14_charAt_4 (by decide) (fun h9 => ?_) (fun h9 => ?_)
  · exact absurd h9 c3
  · refine lv_aload_n hx hb dJ14_charAt_7 rfl (lv_at hl 0 rfl) ?_
    refine vk_getf hx hb (nw_val h0 hZ) hI.2.2 hC.2.2.2.1 (hC.2.2.2.2.1 _ q1561) (fun _ h9 => h9) dJ14_charAt_8 ?_
    refine lv_iload_n hx hb dJ14_charAt_11 rfl (lv_at hl 1 rfl) ?_
    obtain ⟨r5, hz6, hF⟩ := ov_some hF
    refine k_J14_nw_cat hC h0 hZ hI hz6 (Nat.le_of_ble_eq_true rfl) (Nat.le_of_ble_eq_true rfl) hl.1 (Nat.le_of_ble_eq_true rfl) dJ14_charAt_12 ?_
    obtain ⟨hg, hF⟩ := gd_some hF
    have hF := Option.some.inj hF
    subst hF
    exact rd_iret hC hr (gc_n hg) dJ14_charAt_15
theorem k_X1_nw_charAt {p : Program} {l : Launch} {e : Env} {R : Room} {s s0 : State} {b0 : Addr} {m : MethodId} {args : Array Value} {below : List Frame} {meth : Method} {c : Code} {H : Heap} {locs : List Loc} {cells slots : Nat} {Q : State → Prop} {pc : Nat} {ls : Array Slot} {rest : List Value} {G : va_G} {ai : Nat → ClassId} {A : Nat → Prop} {cc : ByteArray} {nL f L kc ks : Nat} {tl : va_W}  {a1 : Int32}  {r1 : Int32} (hC : mo_C p R s m args meth c G ai A RX1 cc nL f L kc ks) (h0 : mo_S0 s0 b0) (hZ : mo_Z s0 A s) (hI : mo_I G A s.heap tl H locs) (hz : f_nw_charAt a1 = some r1) (hf : 3 + 1 ≤ f) (hL : 8 + (2 + 11) + 64 ≤ L) (hsz : ls.size = nL) (hW : (rest.map fun v => v.category).sum ≤ 8) (hdg : decode cc pc = .ok (.invokevirtual 135, 3)) (kk : W p l e R s m args below meth c H locs cells slots Q (F0 m (pc + 3) ls (.int r1 :: rest))) (hc0 : cells ≤ kc := by first | exact Nat.zero_le _ | exact Nat.le_of_ble_eq_true rfl | assumption | omega) (hs0 : slots ≤ ks := by first | exact Nat.zero_le _ | exact Nat.le_of_ble_eq_true rfl | assumption | omega) : W p l e R s m args below meth c H locs cells slots Q (F0 m pc ls (.int a1 :: .ref (nwv s0 b0) :: rest)) :=
  rd_use (va_runV (As := [.int a1]) (rest := rest) ⟨hC.1, hC.2.1, hC.2.2.1, hC.2.2.2.1, hC.2.2.2.2.1⟩ (w_nw_charAt l G ai h0 a1 r1 hz H.size) (cwV 1 hC.2.2.2.2.1 (lw_V q1082 q1083 q1084 q139 q1085) rfl rfl rfl (by decide +kernel) ⟨Nat.le_trans hf hC.2.2.2.2.2.2.2.2.1, Nat.le_trans hL hC.2.2.2.2.2.2.2.2.2.1⟩) ⟨gz_blind, (va_Orecv (nw_O h0 hZ) hI.2.2), gz_pre0 hC hZ hI⟩ rfl rfl hsz rfl (lv_room hW) hdg ⟨Nat.le_trans hc0 hC.2.2.2.2.2.2.2.2.2.2.1, Nat.le_trans hs0 hC.2.2.2.2.2.2.2.2.2.2.2⟩) kk

/-! BitSet, of one word: printed by tools/gen_bs.py -/
set_option maxRecDepth 100000
def bs_C (ai : Nat → ClassId) (b bw : Nat) (us : Int32) (wd : Nat → Int64) : va_W := [(b, .inr (13, [.ref bw, .int us, .int 1])), (bw, .inl (ai 1, 1, .inr (.inl wd)))]
theorem bs_J0_g_bs_wordsInUse {p : Program} {l : Launch} {e : Env} {R : Room} {s s0 : State} {b0 : Addr} {m : MethodId} {args : Array Value} {below : List Frame} {meth : Method} {c : Code} {H : Heap} {locs : List Loc} {cells slots : Nat} {Q : State → Prop} {pc : Nat} {ls : Array Slot} {rest : List Value} {G : va_G} {ai : Nat → ClassId} {A : Nat → Prop} {cc : ByteArray} {nL f L kc ks : Nat} {b bw : Nat} {tl : va_W} {us : Int32} {wd : Nat → Int64} (hC : mo_C p R s m args meth c G ai A RJ0 cc nL f L kc ks) (h0 : mo_S0 s0 b0) (hZ : mo_Z s0 A s) (hI : mo_I G A s.heap (bs_C ai b bw us wd ++ tl) H locs) (hdg : decode cc pc = .ok (.getfield 7, 3)) (kk : W p l e R s m args below meth c H locs cells slots Q (F0 m (pc + 3) ls (.int (us) :: rest))) : W p l e R s m args below meth c H locs cells slots Q (F0 m pc ls (.ref (b) :: rest)) :=
  va_get (D := G) (ci := 13) (C := RJ0) (T := TJ0) (N := 3) hC.1 hC.2.1 hC.2.2.2.2.1 in_J0 hC.2.2.2.1 hC.2.2.2.2.2.2.1 hI.1 0 rfl rfl 1 (by decide) (hC.2.2.2.2.1 _ q194) (fun _ h9 => h9) rfl hdg kk
theorem bs_J0_g_bs_words {p : Program} {l : Launch} {e : Env} {R : Room} {s s0 : State} {b0 : Addr} {m : MethodId} {args : Array Value} {below : List Frame} {meth : Method} {c : Code} {H : Heap} {locs : List Loc} {cells slots : Nat} {Q : State → Prop} {pc : Nat} {ls : Array Slot} {rest : List Value} {G : va_G} {ai : Nat → ClassId} {A : Nat → Prop} {cc : ByteArray} {nL f L kc ks : Nat} {b bw : Nat} {tl : va_W} {us : Int32} {wd : Nat → Int64} (hC : mo_C p R s m args meth c G ai A RJ0 cc nL f L kc ks) (h0 : mo_S0 s0 b0) (hZ : mo_Z s0 A s) (hI : mo_I G A s.heap (bs_C ai b bw us wd ++ tl) H locs) (hdg : decode cc pc = .ok (.getfield 11, 3)) (kk : W p l e R s m args below meth c H locs cells slots Q (F0 m (pc + 3) ls (.ref (bw) :: rest))) : W p l e R s m args below meth c H locs cells slots Q (F0 m pc ls (.ref (b) :: rest)) :=
  va_get (D := G) (ci := 13) (C := RJ0) (T := TJ0) (N := 3) hC.1 hC.2.1 hC.2.2.2.2.1 in_J0 hC.2.2.2.1 hC.2.2.2.2.2.2.1 hI.1 0 rfl rfl 0 (by decide) (hC.2.2.2.2.1 _ q193) (fun _ h9 => h9) rfl hdg kk
theorem bs_l_bsw {own : String} {p : Program} {l : Launch} {e : Env} {R : Room} {s : State} {m : MethodId} {args : Array Value} {below : List Frame} {meth : Method} {c : Code} {H : Heap} {locs : List Loc} {cells slots : Nat} {Q : State → Prop} {pc : Nat} {ls : Array Slot} {rest : List Value} {G : va_G} {ai : Nat → ClassId} {A : Nat → Prop} {cc : ByteArray} {nL f L kc ks : Nat} {b bw : Nat} {tl : va_W} {us : Int32} {wd : Nat → Int64} {j : Int32} (hC : mo_C p R s m args meth c G ai A own cc nL f L kc ks) (hI : mo_I G A s.heap (bs_C ai b bw us wd ++ tl) H locs) (hg : gi j 1 = true) (hdg : decode cc pc = .ok (.laload, 1)) (kk : W p l e R s m args below meth c H locs cells slots Q (F0 m (pc + 1) ls (.long (wd j.toNatClampNeg) :: rest))) : W p l e R s m args below meth c H locs cells slots Q (F0 m pc ls (.int j :: .ref (bw) :: rest)) :=
  va_lald hC.1 hC.2.1 hC.2.2.2.2.2.2.1 hI.1 1 1 rfl rfl (gi_in hg) hdg kk
theorem bs_n_bsw {own : String} {p : Program} {l : Launch} {e : Env} {R : Room} {s : State} {m : MethodId} {args : Array Value} {below : List Frame} {meth : Method} {c : Code} {H : Heap} {locs : List Loc} {cells slots : Nat} {Q : State → Prop} {pc : Nat} {ls : Array Slot} {rest : List Value} {G : va_G} {ai : Nat → ClassId} {A : Nat → Prop} {cc : ByteArray} {nL f L kc ks : Nat} {b bw : Nat} {tl : va_W} {us : Int32} {wd : Nat → Int64} (hC : mo_C p R s m args meth c G ai A own cc nL f L kc ks) (hI : mo_I G A s.heap (bs_C ai b bw us wd ++ tl) H locs) (hdg : decode cc pc = .ok (.arraylength, 1)) (kk : W p l e R s m args below meth c H locs cells slots Q (F0 m (pc + 1) ls (.int 1 :: rest))) : W p l e R s m args below meth c H locs cells slots Q (F0 m pc ls (.ref (bw) :: rest)) :=
  va_alen (v := 1) hC.1 hC.2.1 hC.2.2.2.2.2.2.1 hI.1 1 1 rfl rfl rfl hdg kk
theorem bs_J0_p_bs_wordsInUse {p : Program} {l : Launch} {e : Env} {R : Room} {s s0 : State} {b0 : Addr} {m : MethodId} {args : Array Value} {below : List Frame} {meth : Method} {c : Code} {H : Heap} {locs : List Loc} {cells slots : Nat} {Q : State → Prop} {pc : Nat} {ls : Array Slot} {rest : List Value} {G : va_G} {ai : Nat → ClassId} {A : Nat → Prop} {cc : ByteArray} {nL f L kc ks : Nat} {b bw : Nat} {tl : va_W} {us : Int32} {wd : Nat → Int64} {x : Int32} {z1 : Int32} (hC : mo_C p R s m args meth c G ai A RJ0 cc nL f L kc ks) (h0 : mo_S0 s0 b0) (hZ : mo_Z s0 A s) (hI : mo_I G A s.heap (bs_C ai b bw us wd ++ tl) H locs) (hM : z1 = x) (hdg : decode cc pc = .ok (.putfield 7, 3)) (kk : ∀ (H1 : Heap) (locs1 : List Loc), mo_I G A s.heap (bs_C ai b bw z1 wd ++ tl) H1 locs1 → W p l e R s m args below meth c H1 locs1 cells slots Q (F0 m (pc + 3) ls (rest))) : W p l e R s m args below meth c H locs cells slots Q (F0 m pc ls (.int x :: .ref (b) :: rest)) := by
  subst z1
  exact va_put (D := G) (ci := 13) (v := .int x) (ty := .int) (C := RJ0) (T := TJ0) (N := 3) hC.1 hC.2.1 hC.2.2.2.2.1 in_J0 tyJ0 tyJ0_ok nmJ0 hC.2.2.2.1 hC.2.2.2.2.2.2.1 hI.1 hI.2.1 hI.2.2 0 rfl rfl 1 (by decide) (hC.2.2.2.2.1 _ q194) (fun _ h9 => h9) rfl (by decide +kernel) rfl rfl (Nat.le_of_ble_eq_true rfl) hdg (fun H locs hP hD hS => kk H locs ⟨hP, hD, hS⟩)
theorem bs_s_bsw {own : String} {p : Program} {l : Launch} {e : Env} {R : Room} {s : State} {m : MethodId} {args : Array Value} {below : List Frame} {meth : Method} {c : Code} {H : Heap} {locs : List Loc} {cells slots : Nat} {Q : State → Prop} {pc : Nat} {ls : Array Slot} {rest : List Value} {G : va_G} {ai : Nat → ClassId} {A : Nat → Prop} {cc : ByteArray} {nL f L kc ks : Nat} {b bw : Nat} {tl : va_W} {us : Int32} {wd : Nat → Int64} {j : Int32} {x : Int64} {z1 : Nat → Int64} (hC : mo_C p R s m args meth c G ai A own cc nL f L kc ks) (hI : mo_I G A s.heap (bs_C ai b bw us wd ++ tl) H locs) (hg : gi j 1 = true) (hM : z1 = vp_updL wd j.toNatClampNeg x) (hdg : decode cc pc = .ok (.lastore, 1)) (kk : ∀ (H1 : Heap) (locs1 : List Loc), mo_I G A s.heap (bs_C ai b bw us z1 ++ tl) H1 locs1 → W p l e R s m args below meth c H1 locs1 cells slots Q (F0 m (pc + 1) ls (rest))) : W p l e R s m args below meth c H locs cells slots Q (F0 m pc ls (.long x :: .int j :: .ref (bw) :: rest)) := by
  subst z1
  exact va_last hC.1 hC.2.1 hC.2.2.2.2.2.2.1 hI.1 hI.2.1 hI.2.2 1 1 rfl rfl (gi_in hg) hdg (fun H locs hP hD hS => kk H locs ⟨hP, hD, hS⟩)
def p_wordIndex (a0 : Int32) : Int32 := (a0 >>> (6 &&& 31))
theorem w_p_wordIndex (l : Launch) (a0 : Int32) (v0 : Int32) (hF : p_wordIndex a0 = v0) : pu_Met l yJ0_wordIndex cJ0_wordIndex 1 (some .int) ({ frames := 0, cells := 0, slots := 0, locals := 0 } : Room) [.int a0] (.int v0) := by
  refine pu_body (by decide) (Nat.le_of_ble_eq_true rfl) ?_
  intro p e s m args below meth c ls hN hr hl
  have hx := hN.1
  have hb := hN.2.1
  have hl : lv_has ls 1 [(0, .int a0)] := hl
  rw [p_wordIndex] at hF
  refine lv_iload_n hx hb dJ0_wordIndex_0 rfl (lv_at hl 0 rfl) ?_
  refine lv_bipush (v := 6) hx hb dJ0_wordIndex_1 (by decide) ?_
  refine lv_ishr hx hb dJ0_wordIndex_3 ?_
  subst hF
  exact pu_iret (v := (a0 >>> (6 &&& 31))) hN hr rfl dJ0_wordIndex_4
theorem k_J0_wordIndex {p : Program} {l : Launch} {e : Env} {R : Room} {s : State} {m : MethodId} {args : Array Value} {below : List Frame} {meth : Method} {c : Code} {H : Heap} {locs : List Loc} {cells slots : Nat} {Q : State → Prop} {pc : Nat} {ls : Array Slot} {rest : List Value} {cc : ByteArray} {nL f L : Nat} {a0 : Int32} (hN : mo_N p R s m args meth c RJ0 cc nL f L) (hf : 0 + 1 ≤ f) (hL : 8 + (1 + 11) + 0 ≤ L) (hsz : ls.size = nL) (hW : (rest.map fun v => v.category).sum ≤ 8) (hdg : decode cc pc = .ok (.invokestatic 52, 3)) (kk : W p l e R s m args below meth c H locs cells slots Q (F0 m (pc + 3) ls (.int (p_wordIndex a0) :: rest))) (hc0 : cells ≤ R.cells := by first | exact Nat.zero_le _ | exact Nat.le_of_ble_eq_true rfl | assumption | omega) (hs0 : slots ≤ R.slots := by first | exact Nat.zero_le _ | exact Nat.le_of_ble_eq_true rfl | assumption | omega) : W p l e R s m args below meth c H locs cells slots Q (F0 m pc ls (.int a0 :: rest)) :=
  pu_cS hN 1 (w_p_wordIndex l a0 _ rfl) q190 q191 q117 q192 rfl rfl (by decide +kernel) rfl hf hL hc0 hs0 hsz rfl hW hdg kk
def f_bs_checkInvariants (us : Int32) (wd : Nat → Int64) : Option Int32 := lj (lj (some 0) (fun j70_1 => j70_1)) (fun j37_0 => j37_0)
set_option maxHeartbeats 4000000 in
theorem w_bs_checkInvariants (l : Launch) (G : va_G) (ai : Nat → ClassId) {s0 : State} {b0 : Addr} (h0 : mo_S0 s0 b0) {b bw : Nat} {tl : va_W} (us : Int32) (wd : Nat → Int64) (r0 : Int32) (hF : f_bs_checkInvariants us wd = some r0) : rv_Met l G ai s0 yJ0_checkInvariants cJ0_checkInvariants 1 ({ frames := 0, cells := 0, slots := 0, locals := 0 } : Room) [.ref b] (bs_C ai b bw us wd ++ tl) := by
  refine gz_body (Qc := fun _ => rv_Q) (fr := fun _ _ => False) (by decide) (Nat.le_of_ble_eq_true rfl) ?_
  intro p e s m args below meth c A ls hC hZ hr hI hl hnm
  have hx := hC.1
  have hb := hC.2.1
  have hl : lv_has ls 1 [(0, .ref b)] := hl
  show W p l e _ s m args below meth c s.heap [] 0 0 (MQ below rv_Q args s 0 0 (fun _ => False)) (F0 m 0 ls [])
  rw [f_bs_checkInvariants] at hF
  refine va_gets hx hb (zs_J0 h0 hZ) hI.2.2 hC.2.2.2.1 (hC.2.2.2.2.1 _ q678) (fun _ h9 => h9) dJ0_checkInvariants_0 ?_
  obtain ⟨j37_0, hj37_0, hF⟩ := lj_some hF
  have J37 : ∀ (ls : Array Slot), j37_0 = some r0 → lv_has ls 1 [(0, .ref b)] → W p l e ({ frames := 0, cells := 0, slots := 0, locals := 0 } : Room) s m args below meth c s.heap [] 0 0 (MQ below rv_Q args s 0 0 (fun _ => False)) (F0 m 37 ls []) := by
    intro ls hF hl
    rw [hj37_0] at hF
    refine va_gets hx hb (zs_J0 h0 hZ) hI.2.2 hC.2.2.2.1 (hC.2.2.2.2.1 _ q678) (fun _ h9 => h9) dJ0_checkInvariants_37 ?_
    obtain ⟨j70_1, hj70_1, hF⟩ := lj_some hF
    have J70 : ∀ (ls : Array Slot), j70_1 = some r0 → lv_has ls 1 [(0, .ref b)] → W p l e ({ frames := 0, cells := 0, slots := 0, locals := 0 } : Room) s m args below meth c s.heap [] 0 0 (MQ below rv_Q args s 0 0 (fun _ => False)) (F0 m 70 ls []) := by
      intro ls hF hl
      rw [hj70_1] at hF
      refine va_gets hx hb (zs_J0 h0 hZ) hI.2.2 hC.2.2.2.1 (hC.2.2.2.2.1 _ q678) (fun _ h9 => h9) dJ0_checkInvariants_70 ?_
      refine lv_if_ne (tgt := 110) hx hb dJ0_checkInvariants_73 (by decide) (fun h9 => ?_) (fun h9 => ?_)
      · exact rd_vret hC hr dJ0_checkInvariants_110
      · exact absurd h9 (by decide)
    refine lv_if_ne (tgt := 70) hx hb dJ0_checkInvariants_40 (by decide) (fun h9 => ?_) (fun h9 => ?_)
    · exact J70 _ hF (lv_sub hl [0] rfl)
    · exact absurd h9 (by decide)
  refine lv_if_ne (tgt := 37) hx hb dJ0_checkInvariants_3 (by decide) (fun h9 => ?_) (fun h9 => ?_)
  · exact J37 _ hF (lv_sub hl [0] rfl)
  · exact absurd h9 (by decide)
theorem k_J0_bs_checkInvariants {p : Program} {l : Launch} {e : Env} {R : Room} {s s0 : State} {b0 : Addr} {m : MethodId} {args : Array Value} {below : List Frame} {meth : Method} {c : Code} {H : Heap} {locs : List Loc} {cells slots : Nat} {Q : State → Prop} {pc : Nat} {ls : Array Slot} {rest : List Value} {G : va_G} {ai : Nat → ClassId} {A : Nat → Prop} {cc : ByteArray} {nL f L kc ks : Nat} {b bw : Nat} {tl : va_W} {us : Int32} {wd : Nat → Int64}  {r1 : Int32} (hC : mo_C p R s m args meth c G ai A RJ0 cc nL f L kc ks) (h0 : mo_S0 s0 b0) (hZ : mo_Z s0 A s) (hI : mo_I G A s.heap (bs_C ai b bw us wd ++ tl) H locs) (hz : f_bs_checkInvariants us wd = some r1) (hf : 0 + 1 ≤ f) (hL : 8 + (1 + 11) + 0 ≤ L) (hsz : ls.size = nL) (hW : (rest.map fun v => v.category).sum ≤ 8) (hdg : decode cc pc = .ok (.invokevirtual 56, 3)) (kk : W p l e R s m args below meth c H locs cells slots Q (F0 m (pc + 3) ls (rest))) (hc0 : cells ≤ kc := by first | exact Nat.zero_le _ | exact Nat.le_of_ble_eq_true rfl | assumption | omega) (hs0 : slots ≤ ks := by first | exact Nat.zero_le _ | exact Nat.le_of_ble_eq_true rfl | assumption | omega) : W p l e R s m args below meth c H locs cells slots Q (F0 m pc ls (.ref b :: rest)) :=
  rv_use (va_runV (As := []) (rest := rest) ⟨hC.1, hC.2.1, hC.2.2.1, hC.2.2.2.1, hC.2.2.2.2.1⟩ (w_bs_checkInvariants l G ai h0 us wd r1 hz H.size) (cwV 0 hC.2.2.2.2.1 (lw_V q674 q676 qs3 q117 q677) rfl rfl rfl (by decide +kernel) ⟨Nat.le_trans hf hC.2.2.2.2.2.2.2.2.1, Nat.le_trans hL hC.2.2.2.2.2.2.2.2.2.1⟩) ⟨gz_blind, (va_recv hC.2.2.2.2.2.2.1 hI.1 (ci := 13) (q0 := 0) rfl rfl), gz_pre0 hC hZ hI⟩ rfl rfl hsz rfl (lv_room hW) hdg ⟨Nat.le_trans hc0 hC.2.2.2.2.2.2.2.2.2.2.1, Nat.le_trans hs0 hC.2.2.2.2.2.2.2.2.2.2.2⟩) kk
def f_bs_get (us : Int32) (wd : Nat → Int64) (a1 : Int32) : Option Int32 := gd (decide (0 ≤ a1)) (ov (f_bs_checkInvariants us wd) (fun r3 => lt ((p_wordIndex a1)) (fun x2_5 => if (us) ≤ x2_5 then (some 0) else (gd (gi x2_5 1) (if (lg_cmp ((wd x2_5.toNatClampNeg) &&& ((1 : Int64) <<< (a1.toInt64 &&& 63))) 0) = 0 then (some 0) else (some 1))))))
set_option maxHeartbeats 4000000 in
theorem w_bs_get (l : Launch) (G : va_G) (ai : Nat → ClassId) {s0 : State} {b0 : Addr} (h0 : mo_S0 s0 b0) {b bw : Nat} {tl : va_W} (us : Int32) (wd : Nat → Int64) (a1 : Int32) (r0 : Int32) (hF : f_bs_get us wd a1 = some r0) : rd_Met l G ai s0 yJ0_get cJ0_get 3 (some .boolean) ({ frames := 1, cells := 0, slots := 0, locals := 20 } : Room) [.ref b, .int a1] (bs_C ai b bw us wd ++ tl) (.int r0) := by
  refine gz_body (Qc := fun _ => rd_Q (.int r0)) (fr := fun _ _ => False) (by decide) (Nat.le_of_ble_eq_true rfl) ?_
  intro p e s m args below meth c A ls hC hZ hr hI hl hnm
  have hx := hC.1
  have hb := hC.2.1
  have hl : lv_has ls 3 [(0, .ref b), (1, .int a1)] := hl
  show W p l e _ s m args below meth c s.heap [] 0 0 (MQ below (rd_Q (.int r0)) args s 0 0 (fun _ => False)) (F0 m 0 ls [])
  rw [f_bs_get] at hF
  refine lv_iload_n hx hb dJ0_get_0 rfl (lv_at hl 1 rfl) ?_
  obtain ⟨hg2, hF⟩ := gd_some hF
  have c1 := of_decide_eq_true hg2
  refine lv_if_ge (tgt := 31) hx hb dJ0_get_1 (by decide) (fun h9 => ?_) (fun h9 => ?_)
  · refine lv_aload_n hx hb dJ0_get_31 rfl (lv_at hl 0 rfl) ?_
    obtain ⟨r3, hz4, hF⟩ := ov_some hF
    refine k_J0_bs_checkInvariants hC h0 hZ hI hz4 (Nat.le_of_ble_eq_true rfl) (Nat.le_of_ble_eq_true rfl) hl.1 (Nat.le_of_ble_eq_true rfl) dJ0_get_32 ?_
    refine lv_iload_n hx hb dJ0_get_35 rfl (lv_at hl 1 rfl) ?_
    refine k_J0_wordIndex (mo_CN hC) (Nat.le_of_ble_eq_true rfl) (Nat.le_of_ble_eq_true rfl) hl.1 (Nat.le_of_ble_eq_true rfl) dJ0_get_36 ?_
    obtain ⟨x2_5, hx2_5, hF⟩ := lt_some hF
    refine mo_ist (lv' := [(2, .int x2_5), (0, .ref b), (1, .int a1)]) hx hb hx2_5 dJ0_get_39 rfl hl (by decide) rfl (fun ls hl => ?_)
    refine lv_iload_n hx hb dJ0_get_40 rfl (lv_at hl 0 rfl) ?_
    refine lv_aload_n hx hb dJ0_get_41 rfl (lv_at hl 1 rfl) ?_
    refine bs_J0_g_bs_wordsInUse hC h0 hZ hI dJ0_get_42 ?_
    refine lv_icmp_ge (tgt := 67) hx hb dJ0_get_45 (by decide) (fun c6 => ?_) (fun c6 => ?_)
    · have hF := if_t hF c6
      refine lv_iconst (v := 0) hx hb dJ0_get_67 (by decide) ?_
      have hF := Option.some.inj hF
      subst hF
      exact rd_iret hC hr rfl dJ0_get_68
    · have hF := if_f hF c6
      refine lv_aload_n hx hb dJ0_get_48 rfl (lv_at hl 1 rfl) ?_
      refine bs_J0_g_bs_words hC h0 hZ hI dJ0_get_49 ?_
      refine lv_iload_n hx hb dJ0_get_52 rfl (lv_at hl 0 rfl) ?_
      obtain ⟨hg7, hF⟩ := gd_some hF
      refine bs_l_bsw hC hI hg7 dJ0_get_53 ?_
      refine lv_lconst (v := 1) hx hb dJ0_get_54 (by decide) ?_
      refine lv_iload_n hx hb dJ0_get_55 rfl (lv_at hl 2 rfl) ?_
      refine lv_lshl hx hb dJ0_get_56 rfl ?_
      refine lv_land hx hb dJ0_get_57 ?_
      refine lv_lconst (v := 0) hx hb dJ0_get_58 (by decide) ?_
      refine W.lcmp hx hb dJ0_get_59 ?_
      refine lv_if_eq (tgt := 67) hx hb dJ0_get_60 (by decide) (fun c8 => ?_) (fun c8 => ?_)
      · have hF := if_t hF c8
        refine lv_iconst (v := 0) hx hb dJ0_get_67 (by decide) ?_
        have hF := Option.some.inj hF
        subst hF
        exact rd_iret hC hr rfl dJ0_get_68
      · have hF := if_f hF c8
        refine lv_iconst (v := 1) hx hb dJ0_get_63 (by decide) ?_
        refine lv_goto (tgt := 68) hx hb dJ0_get_64 (by decide) ?_
        have hF := Option.some.inj hF
        subst hF
        exact rd_iret hC hr rfl dJ0_get_68
  · exact absurd c1 h9
def f_bs_ensureCapacity (us : Int32) (wd : Nat → Int64) (a1 : Int32) : Option ((Int32 × Int32 × (Nat → Int64))) := gd (decide (a1 ≤ (1 : Int32))) (some (0, (us, wd)))
set_option maxHeartbeats 4000000 in
theorem w_bs_ensureCapacity (l : Launch) (G : va_G) (ai : Nat → ClassId) {s0 : State} {b0 : Addr} (h0 : mo_S0 s0 b0) {b bw : Nat} {tl : va_W} (us : Int32) (wd : Nat → Int64) (a1 : Int32) (r0 : Int32) (u0 : Int32 × (Nat → Int64)) (hF : f_bs_ensureCapacity us wd a1 = some (r0, u0)) : gz_Mv l G ai s0 (fun (u : Int32 × (Nat → Int64)) => (bs_C ai b bw u.1 u.2 ++ tl)) yJ0_ensureCapacity cJ0_ensureCapacity 3 ({ frames := 0, cells := 0, slots := 0, locals := 0 } : Room) [.ref b, .int a1] (bs_C ai b bw us wd ++ tl) (fun (u : Int32 × (Nat → Int64)) => u = u0) 0 0 := by
  refine gz_body (Qc := fun A => va_Qv (fun (u : Int32 × (Nat → Int64)) => u = u0) (gw_E G ai (fun (u : Int32 × (Nat → Int64)) => (bs_C ai b bw u.1 u.2 ++ tl)) A) A) (fr := fun A => A) (by decide) (Nat.le_of_ble_eq_true rfl) ?_
  intro p e s m args below meth c A ls hC hZ hr hI hl hnm
  have hx := hC.1
  have hb := hC.2.1
  have hl : lv_has ls 3 [(0, .ref b), (1, .int a1)] := hl
  show W p l e _ s m args below meth c s.heap [] 0 0 (MQ below (va_Qv (fun (u : Int32 × (Nat → Int64)) => u = u0) (gw_E G ai (fun (u : Int32 × (Nat → Int64)) => (bs_C ai b bw u.1 u.2 ++ tl)) A) A) args s 0 0 A) (F0 m 0 ls [])
  rw [f_bs_ensureCapacity] at hF
  refine lv_aload_n hx hb dJ0_ensureCapacity_0 rfl (lv_at hl 0 rfl) ?_
  refine bs_J0_g_bs_words hC h0 hZ hI dJ0_ensureCapacity_1 ?_
  refine bs_n_bsw hC hI dJ0_ensureCapacity_4 ?_
  refine lv_iload_n hx hb dJ0_ensureCapacity_5 rfl (lv_at hl 1 rfl) ?_
  obtain ⟨hg2, hF⟩ := gd_some hF
  have c1 := of_decide_eq_true hg2
  refine lv_icmp_ge (tgt := 38) hx hb dJ0_ensureCapacity_6 (by decide) (fun h9 => ?_) (fun h9 => ?_)
  · cases hF
    exact W.vret hx hb hr (fun t ht hW => ⟨⟨_, rfl, rfl, by rw [ht]; exact hI.1, va_K.moved hW.alike hC.2.2.2.2.2.2.1, hI.2.1⟩, hI.2.2.F ht⟩) hI.2.2.2.2 dJ0_ensureCapacity_38 hC.2.2.2.2.2.1
  · exact absurd c1 h9
theorem k_J0_bs_ensureCapacity {p : Program} {l : Launch} {e : Env} {R : Room} {s s0 : State} {b0 : Addr} {m : MethodId} {args : Array Value} {below : List Frame} {meth : Method} {c : Code} {H : Heap} {locs : List Loc} {cells slots : Nat} {Q : State → Prop} {pc : Nat} {ls : Array Slot} {rest : List Value} {G : va_G} {ai : Nat → ClassId} {A : Nat → Prop} {cc : ByteArray} {nL f L kc ks : Nat} {b bw : Nat} {tl : va_W} {us : Int32} {wd : Nat → Int64} {a1 : Int32}  {r1 : Int32} {u1 : Int32 × (Nat → Int64)} (hC : mo_C p R s m args meth c G ai A RJ0 cc nL f L kc ks) (h0 : mo_S0 s0 b0) (hZ : mo_Z s0 A s) (hI : mo_I G A s.heap (bs_C ai b bw us wd ++ tl) H locs) (hz : f_bs_ensureCapacity us wd a1 = some (r1, u1)) (hf : 0 + 1 ≤ f) (hL : 8 + (3 + 11) + 0 ≤ L) (hsz : ls.size = nL) (hW : (rest.map fun v => v.category).sum ≤ 8) (hdg : decode cc pc = .ok (.invokevirtual 139, 3)) (kk : ∀ (H1 : Heap) (locs1 : List Loc), mo_I G A s.heap (bs_C ai b bw u1.1 u1.2 ++ tl) H1 locs1 → W p l e R s m args below meth c H1 locs1 cells slots Q (F0 m (pc + 3) ls (rest))) (hc0 : cells + 0 ≤ kc := by first | exact Nat.zero_le _ | exact Nat.le_of_ble_eq_true rfl | assumption | omega) (hs0 : slots + 0 ≤ ks := by first | exact Nat.zero_le _ | exact Nat.le_of_ble_eq_true rfl | assumption | omega) : W p l e R s m args below meth c H locs cells slots Q (F0 m pc ls (.int a1 :: .ref b :: rest)) :=
  gz_usev0 hC.2.2.2.2.2.2.2.1 hI (va_runV (As := [.int a1]) (rest := rest) ⟨hC.1, hC.2.1, hC.2.2.1, hC.2.2.2.1, hC.2.2.2.2.1⟩ (w_bs_ensureCapacity l G ai h0 us wd a1 r1 u1 hz H.size) (cwV 1 hC.2.2.2.2.1 (lw_V q654 q656 qs2 q117 q657) rfl rfl rfl (by decide +kernel) ⟨Nat.le_trans hf hC.2.2.2.2.2.2.2.2.1, Nat.le_trans hL hC.2.2.2.2.2.2.2.2.2.1⟩) ⟨gz_blind, (va_recv hC.2.2.2.2.2.2.1 hI.1 (ci := 13) (q0 := 0) rfl rfl), gz_pre0 hC hZ hI⟩ rfl rfl hsz rfl (lv_room hW) hdg ⟨Nat.le_trans hc0 hC.2.2.2.2.2.2.2.2.2.2.1, Nat.le_trans hs0 hC.2.2.2.2.2.2.2.2.2.2.2⟩) (fun u H1 locs1 hp hI1 => by cases hp; exact kk H1 locs1 hI1)
def f_bs_expandTo (us : Int32) (wd : Nat → Int64) (a1 : Int32) : Option ((Int32 × Int32 × (Nat → Int64))) := lt ((a1 + 1)) (fun x2_1 => if x2_1 ≤ (us) then (some (0, (us, wd))) else (ob (f_bs_ensureCapacity us wd x2_1) (fun r3 u4 => lt (x2_1) (fun us6 => some (0, (us6, u4.2))))))
set_option maxHeartbeats 4000000 in
theorem w_bs_expandTo (l : Launch) (G : va_G) (ai : Nat → ClassId) {s0 : State} {b0 : Addr} (h0 : mo_S0 s0 b0) {b bw : Nat} {tl : va_W} (us : Int32) (wd : Nat → Int64) (a1 : Int32) (r0 : Int32) (u0 : Int32 × (Nat → Int64)) (hF : f_bs_expandTo us wd a1 = some (r0, u0)) : gz_Mv l G ai s0 (fun (u : Int32 × (Nat → Int64)) => (bs_C ai b bw u.1 u.2 ++ tl)) yJ0_expandTo cJ0_expandTo 3 ({ frames := 1, cells := 0, slots := 0, locals := 22 } : Room) [.ref b, .int a1] (bs_C ai b bw us wd ++ tl) (fun (u : Int32 × (Nat → Int64)) => u = u0) 0 0 := by
  refine gz_body (Qc := fun A => va_Qv (fun (u : Int32 × (Nat → Int64)) => u = u0) (gw_E G ai (fun (u : Int32 × (Nat → Int64)) => (bs_C ai b bw u.1 u.2 ++ tl)) A) A) (fr := fun A => A) (by decide) (Nat.le_of_ble_eq_true rfl) ?_
  intro p e s m args below meth c A ls hC hZ hr hI hl hnm
  have hx := hC.1
  have hb := hC.2.1
  have hl : lv_has ls 3 [(0, .ref b), (1, .int a1)] := hl
  show W p l e _ s m args below meth c s.heap [] 0 0 (MQ below (va_Qv (fun (u : Int32 × (Nat → Int64)) => u = u0) (gw_E G ai (fun (u : Int32 × (Nat → Int64)) => (bs_C ai b bw u.1 u.2 ++ tl)) A) A) args s 0 0 A) (F0 m 0 ls [])
  rw [f_bs_expandTo] at hF
  refine lv_iload_n hx hb dJ0_expandTo_0 rfl (lv_at hl 1 rfl) ?_
  refine lv_iconst (v := 1) hx hb dJ0_expandTo_1 (by decide) ?_
  refine lv_iadd hx hb dJ0_expandTo_2 ?_
  obtain ⟨x2_1, hx2_1, hF⟩ := lt_some hF
  refine mo_ist (lv' := [(2, .int x2_1), (0, .ref b), (1, .int a1)]) hx hb hx2_1 dJ0_expandTo_3 rfl hl (by decide) rfl (fun ls hl => ?_)
  refine lv_aload_n hx hb dJ0_expandTo_4 rfl (lv_at hl 1 rfl) ?_
  refine bs_J0_g_bs_wordsInUse hC h0 hZ hI dJ0_expandTo_5 ?_
  refine lv_iload_n hx hb dJ0_expandTo_8 rfl (lv_at hl 0 rfl) ?_
  refine lv_icmp_ge (tgt := 22) hx hb dJ0_expandTo_9 (by decide) (fun c2 => ?_) (fun c2 => ?_)
  · have hF := if_t hF c2
    cases hF
    exact W.vret hx hb hr (fun t ht hW => ⟨⟨_, rfl, rfl, by rw [ht]; exact hI.1, va_K.moved hW.alike hC.2.2.2.2.2.2.1, hI.2.1⟩, hI.2.2.F ht⟩) hI.2.2.2.2 dJ0_expandTo_22 hC.2.2.2.2.2.1
  · have hF := if_f hF c2
    refine lv_aload_n hx hb dJ0_expandTo_12 rfl (lv_at hl 1 rfl) ?_
    refine lv_iload_n hx hb dJ0_expandTo_13 rfl (lv_at hl 0 rfl) ?_
    obtain ⟨r3, u4, hz5, hF⟩ := ob_some hF
    refine k_J0_bs_ensureCapacity hC h0 hZ hI hz5 (Nat.le_of_ble_eq_true rfl) (Nat.le_of_ble_eq_true rfl) hl.1 (Nat.le_of_ble_eq_true rfl) dJ0_expandTo_14 (fun H locs hI => ?_)
    refine lv_aload_n hx hb dJ0_expandTo_17 rfl (lv_at hl 1 rfl) ?_
    refine lv_iload_n hx hb dJ0_expandTo_18 rfl (lv_at hl 0 rfl) ?_
    obtain ⟨us6, hus6, hF⟩ := lt_some hF
    refine bs_J0_p_bs_wordsInUse hC h0 hZ hI hus6 dJ0_expandTo_19 (fun H locs hI => ?_)
    cases hF
    exact W.vret hx hb hr (fun t ht hW => ⟨⟨_, rfl, rfl, by rw [ht]; exact hI.1, va_K.moved hW.alike hC.2.2.2.2.2.2.1, hI.2.1⟩, hI.2.2.F ht⟩) hI.2.2.2.2 dJ0_expandTo_22 hC.2.2.2.2.2.1
theorem k_J0_bs_expandTo {p : Program} {l : Launch} {e : Env} {R : Room} {s s0 : State} {b0 : Addr} {m : MethodId} {args : Array Value} {below : List Frame} {meth : Method} {c : Code} {H : Heap} {locs : List Loc} {cells slots : Nat} {Q : State → Prop} {pc : Nat} {ls : Array Slot} {rest : List Value} {G : va_G} {ai : Nat → ClassId} {A : Nat → Prop} {cc : ByteArray} {nL f L kc ks : Nat} {b bw : Nat} {tl : va_W} {us : Int32} {wd : Nat → Int64} {a1 : Int32}  {r1 : Int32} {u1 : Int32 × (Nat → Int64)} (hC : mo_C p R s m args meth c G ai A RJ0 cc nL f L kc ks) (h0 : mo_S0 s0 b0) (hZ : mo_Z s0 A s) (hI : mo_I G A s.heap (bs_C ai b bw us wd ++ tl) H locs) (hz : f_bs_expandTo us wd a1 = some (r1, u1)) (hf : 1 + 1 ≤ f) (hL : 8 + (3 + 11) + 22 ≤ L) (hsz : ls.size = nL) (hW : (rest.map fun v => v.category).sum ≤ 8) (hdg : decode cc pc = .ok (.invokevirtual 155, 3)) (kk : ∀ (H1 : Heap) (locs1 : List Loc), mo_I G A s.heap (bs_C ai b bw u1.1 u1.2 ++ tl) H1 locs1 → W p l e R s m args below meth c H1 locs1 cells slots Q (F0 m (pc + 3) ls (rest))) (hc0 : cells + 0 ≤ kc := by first | exact Nat.zero_le _ | exact Nat.le_of_ble_eq_true rfl | assumption | omega) (hs0 : slots + 0 ≤ ks := by first | exact Nat.zero_le _ | exact Nat.le_of_ble_eq_true rfl | assumption | omega) : W p l e R s m args below meth c H locs cells slots Q (F0 m pc ls (.int a1 :: .ref b :: rest)) :=
  gz_usev0 hC.2.2.2.2.2.2.2.1 hI (va_runV (As := [.int a1]) (rest := rest) ⟨hC.1, hC.2.1, hC.2.2.1, hC.2.2.2.1, hC.2.2.2.2.1⟩ (w_bs_expandTo l G ai h0 us wd a1 r1 u1 hz H.size) (cwV 1 hC.2.2.2.2.1 (lw_V q925 q927 qs14 q117 q928) rfl rfl rfl (by decide +kernel) ⟨Nat.le_trans hf hC.2.2.2.2.2.2.2.2.1, Nat.le_trans hL hC.2.2.2.2.2.2.2.2.2.1⟩) ⟨gz_blind, (va_recv hC.2.2.2.2.2.2.1 hI.1 (ci := 13) (q0 := 0) rfl rfl), gz_pre0 hC hZ hI⟩ rfl rfl hsz rfl (lv_room hW) hdg ⟨Nat.le_trans hc0 hC.2.2.2.2.2.2.2.2.2.2.1, Nat.le_trans hs0 hC.2.2.2.2.2.2.2.2.2.2.2⟩) (fun u H1 locs1 hp hI1 => by cases hp; exact kk H1 locs1 hI1)
def f_bs_set (us : Int32) (wd : Nat → Int64) (a1 : Int32) : Option ((Int32 × Int32 × (Nat → Int64))) := gd (decide (0 ≤ a1)) (lt ((p_wordIndex a1)) (fun x2_3 => ob (f_bs_expandTo us wd x2_3) (fun r4 u5 => gd (gi x2_3 1) (gd (gi x2_3 1) (lt (vp_updL u5.2 x2_3.toNatClampNeg ((u5.2 x2_3.toNatClampNeg) ||| ((1 : Int64) <<< (a1.toInt64 &&& 63)))) (fun wd9 => ov (f_bs_checkInvariants u5.1 wd9) (fun r10 => some (0, (u5.1, wd9)))))))))
set_option maxHeartbeats 4000000 in
theorem w_bs_set (l : Launch) (G : va_G) (ai : Nat → ClassId) {s0 : State} {b0 : Addr} (h0 : mo_S0 s0 b0) {b bw : Nat} {tl : va_W} (us : Int32) (wd : Nat → Int64) (a1 : Int32) (r0 : Int32) (u0 : Int32 × (Nat → Int64)) (hF : f_bs_set us wd a1 = some (r0, u0)) : gz_Mv l G ai s0 (fun (u : Int32 × (Nat → Int64)) => (bs_C ai b bw u.1 u.2 ++ tl)) yJ0_set cJ0_set 3 ({ frames := 2, cells := 0, slots := 0, locals := 44 } : Room) [.ref b, .int a1] (bs_C ai b bw us wd ++ tl) (fun (u : Int32 × (Nat → Int64)) => u = u0) 0 0 := by
  refine gz_body (Qc := fun A => va_Qv (fun (u : Int32 × (Nat → Int64)) => u = u0) (gw_E G ai (fun (u : Int32 × (Nat → Int64)) => (bs_C ai b bw u.1 u.2 ++ tl)) A) A) (fr := fun A => A) (by decide) (Nat.le_of_ble_eq_true rfl) ?_
  intro p e s m args below meth c A ls hC hZ hr hI hl hnm
  have hx := hC.1
  have hb := hC.2.1
  have hl : lv_has ls 3 [(0, .ref b), (1, .int a1)] := hl
  show W p l e _ s m args below meth c s.heap [] 0 0 (MQ below (va_Qv (fun (u : Int32 × (Nat → Int64)) => u = u0) (gw_E G ai (fun (u : Int32 × (Nat → Int64)) => (bs_C ai b bw u.1 u.2 ++ tl)) A) A) args s 0 0 A) (F0 m 0 ls [])
  rw [f_bs_set] at hF
  refine lv_iload_n hx hb dJ0_set_0 rfl (lv_at hl 1 rfl) ?_
  obtain ⟨hg2, hF⟩ := gd_some hF
  have c1 := of_decide_eq_true hg2
  refine lv_if_ge (tgt := 31) hx hb dJ0_set_1 (by decide) (fun h9 => ?_) (fun h9 => ?_)
  · refine lv_iload_n hx hb dJ0_set_31 rfl (lv_at hl 1 rfl) ?_
    refine k_J0_wordIndex (mo_CN hC) (Nat.le_of_ble_eq_true rfl) (Nat.le_of_ble_eq_true rfl) hl.1 (Nat.le_of_ble_eq_true rfl) dJ0_set_32 ?_
    obtain ⟨x2_3, hx2_3, hF⟩ := lt_some hF
    refine mo_ist (lv' := [(2, .int x2_3), (0, .ref b), (1, .int a1)]) hx hb hx2_3 dJ0_set_35 rfl hl (by decide) rfl (fun ls hl => ?_)
    refine lv_aload_n hx hb dJ0_set_36 rfl (lv_at hl 1 rfl) ?_
    refine lv_iload_n hx hb dJ0_set_37 rfl (lv_at hl 0 rfl) ?_
    obtain ⟨r4, u5, hz6, hF⟩ := ob_some hF
    refine k_J0_bs_expandTo hC h0 hZ hI hz6 (Nat.le_of_ble_eq_true rfl) (Nat.le_of_ble_eq_true rfl) hl.1 (Nat.le_of_ble_eq_true rfl) dJ0_set_38 (fun H locs hI => ?_)
    refine lv_aload_n hx hb dJ0_set_41 rfl (lv_at hl 1 rfl) ?_
    refine bs_J0_g_bs_words hC h0 hZ hI dJ0_set_42 ?_
    refine lv_iload_n hx hb dJ0_set_45 rfl (lv_at hl 0 rfl) ?_
    refine lv_dup2_11 hx hb dJ0_set_46 rfl rfl ?_
    obtain ⟨hg7, hF⟩ := gd_some hF
    refine bs_l_bsw hC hI hg7 dJ0_set_47 ?_
    refine lv_lconst (v := 1) hx hb dJ0_set_48 (by decide) ?_
    refine lv_iload_n hx hb dJ0_set_49 rfl (lv_at hl 2 rfl) ?_
    refine lv_lshl hx hb dJ0_set_50 rfl ?_
    refine lv_lor hx hb dJ0_set_51 ?_
    obtain ⟨hg8, hF⟩ := gd_some hF
    obtain ⟨wd9, hwd9, hF⟩ := lt_some hF
    refine bs_s_bsw hC hI hg8 hwd9 dJ0_set_52 (fun H locs hI => ?_)
    refine lv_aload_n hx hb dJ0_set_53 rfl (lv_at hl 1 rfl) ?_
    obtain ⟨r10, hz11, hF⟩ := ov_some hF
    refine k_J0_bs_checkInvariants hC h0 hZ hI hz11 (Nat.le_of_ble_eq_true rfl) (Nat.le_of_ble_eq_true rfl) hl.1 (Nat.le_of_ble_eq_true rfl) dJ0_set_54 ?_
    cases hF
    exact W.vret hx hb hr (fun t ht hW => ⟨⟨_, rfl, rfl, by rw [ht]; exact hI.1, va_K.moved hW.alike hC.2.2.2.2.2.2.1, hI.2.1⟩, hI.2.2.F ht⟩) hI.2.2.2.2 dJ0_set_57 hC.2.2.2.2.2.1
  · exact absurd c1 h9
def f_bs_recalculateWordsInUse_L7 (kont : Int32 → (Nat → Int64) → Int32 → Option (Int32 × Int32 × (Nat → Int64))) : Nat → Int32 → (Nat → Int64) → Int32 → Option (Int32 × Int32 × (Nat → Int64))
  | 0, _, _, _ => none
  | n + 1, x_us, x_wd, x1 => if x1 < 0 then (kont x_us x_wd x1) else (gd (gi x1 1) (if (lg_cmp (x_wd x1.toNatClampNeg) 0) = 0 then (lt (x1 + (-1)) (fun x1_5 => f_bs_recalculateWordsInUse_L7 kont n x_us x_wd x1_5)) else (kont x_us x_wd x1)))
def f_bs_recalculateWordsInUse (us : Int32) (wd : Nat → Int64) : Option ((Int32 × Int32 × (Nat → Int64))) := lt (((us) - 1)) (fun x1_1 => f_bs_recalculateWordsInUse_L7 (fun us6 wd7 x1_8 => lt ((x1_8 + 1)) (fun us9 => some (0, (us9, wd7)))) 3 us wd x1_1)
set_option maxHeartbeats 4000000 in
theorem w_bs_recalculateWordsInUse_L7 {p : Program} {l : Launch} {e : Env} {R : Room} {s s0 : State} {b0 : Addr} {m : MethodId} {args : Array Value} {below : List Frame} {meth : Method} {c : Code} {G : va_G} {ai : Nat → ClassId} {A : Nat → Prop} {b bw : Nat} {tl : va_W} {r0 : Int32} {u0 : Int32 × (Nat → Int64)} (hC : mo_C p R s m args meth c G ai A RJ0 cJ0_recalculateWordsInUse 2 0 0 0 0) (h0 : mo_S0 s0 b0) (hZ : mo_Z s0 A s) (hr : meth.sig.returnType = none) (kont : Int32 → (Nat → Int64) → Int32 → Option (Int32 × Int32 × (Nat → Int64))) (K : ∀ (x_us : Int32) (x_wd : Nat → Int64) (x1 : Int32) (H : Heap) (locs : List Loc) (ls : Array Slot), kont x_us x_wd x1 = some (r0, u0) → mo_I G A s.heap (bs_C ai b bw x_us x_wd ++ tl) H locs → lv_has ls 2 [(1, .int x1), (0, .ref b)] → W p l e R s m args below meth c H locs 0 0 (MQ below (va_Qv (fun (u : Int32 × (Nat → Int64)) => u = u0) (gw_E G ai (fun (u : Int32 × (Nat → Int64)) => (bs_C ai b bw u.1 u.2 ++ tl)) A) A) args s 0 0 A) (F0 m 31 ls [])) :
    ∀ (n : Nat) (x_us : Int32) (x_wd : Nat → Int64) (x1 : Int32) (H : Heap) (locs : List Loc) (ls : Array Slot), f_bs_recalculateWordsInUse_L7 kont n x_us x_wd x1 = some (r0, u0) → mo_I G A s.heap (bs_C ai b bw x_us x_wd ++ tl) H locs → lv_has ls 2 [(1, .int x1), (0, .ref b)] → W p l e R s m args below meth c H locs 0 0 (MQ below (va_Qv (fun (u : Int32 × (Nat → Int64)) => u = u0) (gw_E G ai (fun (u : Int32 × (Nat → Int64)) => (bs_C ai b bw u.1 u.2 ++ tl)) A) A) args s 0 0 A) (F0 m 7 ls []) := by
  have hx := hC.1
  have hb := hC.2.1
  intro n
  induction n with
  | zero =>
    intro x_us x_wd x1 H locs ls hF
    have h0 : (none : Option (Int32 × Int32 × (Nat → Int64))) = some (r0, u0) := hF
    cases h0
  | succ n ih =>
    intro x_us x_wd x1 H locs ls hF hI hl
    rw [f_bs_recalculateWordsInUse_L7] at hF
    refine lv_iload_n hx hb dJ0_recalculateWordsInUse_7 rfl (lv_at hl 0 rfl) ?_
    refine lv_if_lt (tgt := 31) hx hb dJ0_recalculateWordsInUse_8 (by decide) (fun c2 => ?_) (fun c2 => ?_)
    · have hF := if_t hF c2
      exact K _ _ _ _ _ _ hF hI (lv_sub hl [0, 1] rfl)
    · have hF := if_f hF c2
      refine lv_aload_n hx hb dJ0_recalculateWordsInUse_11 rfl (lv_at hl 1 rfl) ?_
      refine bs_J0_g_bs_words hC h0 hZ hI dJ0_recalculateWordsInUse_12 ?_
      refine lv_iload_n hx hb dJ0_recalculateWordsInUse_15 rfl (lv_at hl 0 rfl) ?_
      obtain ⟨hg3, hF⟩ := gd_some hF
      refine bs_l_bsw hC hI hg3 dJ0_recalculateWordsInUse_16 ?_
      refine lv_lconst (v := 0) hx hb dJ0_recalculateWordsInUse_17 (by decide) ?_
      refine W.lcmp hx hb dJ0_recalculateWordsInUse_18 ?_
      refine lv_if_eq (tgt := 25) hx hb dJ0_recalculateWordsInUse_19 (by decide) (fun c4 => ?_) (fun c4 => ?_)
      · have hF := if_t hF c4
        obtain ⟨x1_5, hx1_5, hF⟩ := lt_some hF
        refine mo_inc (k := 0) (lv' := [(1, .int x1_5), (0, .ref b)]) hx hb hx1_5 (by decide) dJ0_recalculateWordsInUse_25 hl rfl (by decide) rfl (fun ls hl => ?_)
        refine lv_goto (tgt := 7) hx hb dJ0_recalculateWordsInUse_28 (by decide) ?_
        exact ih _ _ _ _ _ _ hF hI (lv_sub hl [0, 1] rfl)
      · have hF := if_f hF c4
        refine lv_goto (tgt := 31) hx hb dJ0_recalculateWordsInUse_22 (by decide) ?_
        exact K _ _ _ _ _ _ hF hI (lv_sub hl [0, 1] rfl)
set_option maxHeartbeats 4000000 in
theorem w_bs_recalculateWordsInUse (l : Launch) (G : va_G) (ai : Nat → ClassId) {s0 : State} {b0 : Addr} (h0 : mo_S0 s0 b0) {b bw : Nat} {tl : va_W} (us : Int32) (wd : Nat → Int64) (r0 : Int32) (u0 : Int32 × (Nat → Int64)) (hF : f_bs_recalculateWordsInUse us wd = some (r0, u0)) : gz_Mv l G ai s0 (fun (u : Int32 × (Nat → Int64)) => (bs_C ai b bw u.1 u.2 ++ tl)) yJ0_recalculateWordsInUse cJ0_recalculateWordsInUse 2 ({ frames := 0, cells := 0, slots := 0, locals := 0 } : Room) [.ref b] (bs_C ai b bw us wd ++ tl) (fun (u : Int32 × (Nat → Int64)) => u = u0) 0 0 := by
  refine gz_body (Qc := fun A => va_Qv (fun (u : Int32 × (Nat → Int64)) => u = u0) (gw_E G ai (fun (u : Int32 × (Nat → Int64)) => (bs_C ai b bw u.1 u.2 ++ tl)) A) A) (fr := fun A => A) (by decide) (Nat.le_of_ble_eq_true rfl) ?_
  intro p e s m args below meth c A ls hC hZ hr hI hl hnm
  have hx := hC.1
  have hb := hC.2.1
  have hl : lv_has ls 2 [(0, .ref b)] := hl
  show W p l e _ s m args below meth c s.heap [] 0 0 (MQ below (va_Qv (fun (u : Int32 × (Nat → Int64)) => u = u0) (gw_E G ai (fun (u : Int32 × (Nat → Int64)) => (bs_C ai b bw u.1 u.2 ++ tl)) A) A) args s 0 0 A) (F0 m 0 ls [])
  rw [f_bs_recalculateWordsInUse] at hF
  refine lv_aload_n hx hb dJ0_recalculateWordsInUse_0 rfl (lv_at hl 0 rfl) ?_
  refine bs_J0_g_bs_wordsInUse hC h0 hZ hI dJ0_recalculateWordsInUse_1 ?_
  refine lv_iconst (v := 1) hx hb dJ0_recalculateWordsInUse_4 (by decide) ?_
  refine lv_isub hx hb dJ0_recalculateWordsInUse_5 ?_
  obtain ⟨x1_1, hx1_1, hF⟩ := lt_some hF
  refine mo_ist (lv' := [(1, .int x1_1), (0, .ref b)]) hx hb hx1_1 dJ0_recalculateWordsInUse_6 rfl hl (by decide) rfl (fun ls hl => ?_)
  refine w_bs_recalculateWordsInUse_L7 hC h0 hZ hr _ (fun us6 wd7 x1_8 H locs ls hF hI hl => ?_) 3 _ _ _ _ _ _ hF hI (lv_sub hl [0, 1] rfl)
  refine lv_aload_n hx hb dJ0_recalculateWordsInUse_31 rfl (lv_at hl 1 rfl) ?_
  refine lv_iload_n hx hb dJ0_recalculateWordsInUse_32 rfl (lv_at hl 0 rfl) ?_
  refine lv_iconst (v := 1) hx hb dJ0_recalculateWordsInUse_33 (by decide) ?_
  refine lv_iadd hx hb dJ0_recalculateWordsInUse_34 ?_
  obtain ⟨us9, hus9, hF⟩ := lt_some hF
  refine bs_J0_p_bs_wordsInUse hC h0 hZ hI hus9 dJ0_recalculateWordsInUse_35 (fun H locs hI => ?_)
  cases hF
  exact W.vret hx hb hr (fun t ht hW => ⟨⟨_, rfl, rfl, by rw [ht]; exact hI.1, va_K.moved hW.alike hC.2.2.2.2.2.2.1, hI.2.1⟩, hI.2.2.F ht⟩) hI.2.2.2.2 dJ0_recalculateWordsInUse_38 hC.2.2.2.2.2.1
theorem k_J0_bs_recalculateWordsInUse {p : Program} {l : Launch} {e : Env} {R : Room} {s s0 : State} {b0 : Addr} {m : MethodId} {args : Array Value} {below : List Frame} {meth : Method} {c : Code} {H : Heap} {locs : List Loc} {cells slots : Nat} {Q : State → Prop} {pc : Nat} {ls : Array Slot} {rest : List Value} {G : va_G} {ai : Nat → ClassId} {A : Nat → Prop} {cc : ByteArray} {nL f L kc ks : Nat} {b bw : Nat} {tl : va_W} {us : Int32} {wd : Nat → Int64}  {r1 : Int32} {u1 : Int32 × (Nat → Int64)} (hC : mo_C p R s m args meth c G ai A RJ0 cc nL f L kc ks) (h0 : mo_S0 s0 b0) (hZ : mo_Z s0 A s) (hI : mo_I G A s.heap (bs_C ai b bw us wd ++ tl) H locs) (hz : f_bs_recalculateWordsInUse us wd = some (r1, u1)) (hf : 0 + 1 ≤ f) (hL : 8 + (2 + 11) + 0 ≤ L) (hsz : ls.size = nL) (hW : (rest.map fun v => v.category).sum ≤ 8) (hdg : decode cc pc = .ok (.invokevirtual 158, 3)) (kk : ∀ (H1 : Heap) (locs1 : List Loc), mo_I G A s.heap (bs_C ai b bw u1.1 u1.2 ++ tl) H1 locs1 → W p l e R s m args below meth c H1 locs1 cells slots Q (F0 m (pc + 3) ls (rest))) (hc0 : cells + 0 ≤ kc := by first | exact Nat.zero_le _ | exact Nat.le_of_ble_eq_true rfl | assumption | omega) (hs0 : slots + 0 ≤ ks := by first | exact Nat.zero_le _ | exact Nat.le_of_ble_eq_true rfl | assumption | omega) : W p l e R s m args below meth c H locs cells slots Q (F0 m pc ls (.ref b :: rest)) :=
  gz_usev0 hC.2.2.2.2.2.2.2.1 hI (va_runV (As := []) (rest := rest) ⟨hC.1, hC.2.1, hC.2.2.1, hC.2.2.2.1, hC.2.2.2.2.1⟩ (w_bs_recalculateWordsInUse l G ai h0 us wd r1 u1 hz H.size) (cwV 0 hC.2.2.2.2.1 (lw_V q1128 q1130 qs30 q117 q1131) rfl rfl rfl (by decide +kernel) ⟨Nat.le_trans hf hC.2.2.2.2.2.2.2.2.1, Nat.le_trans hL hC.2.2.2.2.2.2.2.2.2.1⟩) ⟨gz_blind, (va_recv hC.2.2.2.2.2.2.1 hI.1 (ci := 13) (q0 := 0) rfl rfl), gz_pre0 hC hZ hI⟩ rfl rfl hsz rfl (lv_room hW) hdg ⟨Nat.le_trans hc0 hC.2.2.2.2.2.2.2.2.2.2.1, Nat.le_trans hs0 hC.2.2.2.2.2.2.2.2.2.2.2⟩) (fun u H1 locs1 hp hI1 => by cases hp; exact kk H1 locs1 hI1)
def f_bs_clear_2 (us : Int32) (wd : Nat → Int64) (a1 : Int32) : Option ((Int32 × Int32 × (Nat → Int64))) := gd (decide (0 ≤ a1)) (lt ((p_wordIndex a1)) (fun x2_3 => if x2_3 < (us) then (gd (gi x2_3 1) (gd (gi x2_3 1) (lt (vp_updL wd x2_3.toNatClampNeg ((wd x2_3.toNatClampNeg) &&& (((1 : Int64) <<< (a1.toInt64 &&& 63)) ^^^ (-1)))) (fun wd7 => ob (f_bs_recalculateWordsInUse us wd7) (fun r8 u9 => ov (f_bs_checkInvariants u9.1 u9.2) (fun r11 => some (0, (u9.1, u9.2)))))))) else (some (0, (us, wd)))))
set_option maxHeartbeats 4000000 in
theorem w_bs_clear_2 (l : Launch) (G : va_G) (ai : Nat → ClassId) {s0 : State} {b0 : Addr} (h0 : mo_S0 s0 b0) {b bw : Nat} {tl : va_W} (us : Int32) (wd : Nat → Int64) (a1 : Int32) (r0 : Int32) (u0 : Int32 × (Nat → Int64)) (hF : f_bs_clear_2 us wd a1 = some (r0, u0)) : gz_Mv l G ai s0 (fun (u : Int32 × (Nat → Int64)) => (bs_C ai b bw u.1 u.2 ++ tl)) yJ0_clear_2 cJ0_clear_2 3 ({ frames := 1, cells := 0, slots := 0, locals := 21 } : Room) [.ref b, .int a1] (bs_C ai b bw us wd ++ tl) (fun (u : Int32 × (Nat → Int64)) => u = u0) 0 0 := by
  refine gz_body (Qc := fun A => va_Qv (fun (u : Int32 × (Nat → Int64)) => u = u0) (gw_E G ai (fun (u : Int32 × (Nat → Int64)) => (bs_C ai b bw u.1 u.2 ++ tl)) A) A) (fr := fun A => A) (by decide) (Nat.le_of_ble_eq_true rfl) ?_
  intro p e s m args below meth c A ls hC hZ hr hI hl hnm
  have hx := hC.1
  have hb := hC.2.1
  have hl : lv_has ls 3 [(0, .ref b), (1, .int a1)] := hl
  show W p l e _ s m args below meth c s.heap [] 0 0 (MQ below (va_Qv (fun (u : Int32 × (Nat → Int64)) => u = u0) (gw_E G ai (fun (u : Int32 × (Nat → Int64)) => (bs_C ai b bw u.1 u.2 ++ tl)) A) A) args s 0 0 A) (F0 m 0 ls [])
  rw [f_bs_clear_2] at hF
  refine lv_iload_n hx hb dJ0_clear_2_0 rfl (lv_at hl 1 rfl) ?_
  obtain ⟨hg2, hF⟩ := gd_some hF
  have c1 := of_decide_eq_true hg2
  refine lv_if_ge (tgt := 31) hx hb dJ0_clear_2_1 (by decide) (fun h9 => ?_) (fun h9 => ?_)
  · refine lv_iload_n hx hb dJ0_clear_2_31 rfl (lv_at hl 1 rfl) ?_
    refine k_J0_wordIndex (mo_CN hC) (Nat.le_of_ble_eq_true rfl) (Nat.le_of_ble_eq_true rfl) hl.1 (Nat.le_of_ble_eq_true rfl) dJ0_clear_2_32 ?_
    obtain ⟨x2_3, hx2_3, hF⟩ := lt_some hF
    refine mo_ist (lv' := [(2, .int x2_3), (0, .ref b), (1, .int a1)]) hx hb hx2_3 dJ0_clear_2_35 rfl hl (by decide) rfl (fun ls hl => ?_)
    refine lv_iload_n hx hb dJ0_clear_2_36 rfl (lv_at hl 0 rfl) ?_
    refine lv_aload_n hx hb dJ0_clear_2_37 rfl (lv_at hl 1 rfl) ?_
    refine bs_J0_g_bs_wordsInUse hC h0 hZ hI dJ0_clear_2_38 ?_
    refine lv_icmp_lt (tgt := 45) hx hb dJ0_clear_2_41 (by decide) (fun c4 => ?_) (fun c4 => ?_)
    · have hF := if_t hF c4
      refine lv_aload_n hx hb dJ0_clear_2_45 rfl (lv_at hl 1 rfl) ?_
      refine bs_J0_g_bs_words hC h0 hZ hI dJ0_clear_2_46 ?_
      refine lv_iload_n hx hb dJ0_clear_2_49 rfl (lv_at hl 0 rfl) ?_
      refine lv_dup2_11 hx hb dJ0_clear_2_50 rfl rfl ?_
      obtain ⟨hg5, hF⟩ := gd_some hF
      refine bs_l_bsw hC hI hg5 dJ0_clear_2_51 ?_
      refine lv_lconst (v := 1) hx hb dJ0_clear_2_52 (by decide) ?_
      refine lv_iload_n hx hb dJ0_clear_2_53 rfl (lv_at hl 2 rfl) ?_
      refine lv_lshl hx hb dJ0_clear_2_54 rfl ?_
      refine lv_ldc2 (v := (-1)) hx hb hC.2.2.2.1 (hC.2.2.2.2.1 _ q1127) dJ0_clear_2_55 ?_
      refine lv_lxor hx hb dJ0_clear_2_58 ?_
      refine lv_land hx hb dJ0_clear_2_59 ?_
      obtain ⟨hg6, hF⟩ := gd_some hF
      obtain ⟨wd7, hwd7, hF⟩ := lt_some hF
      refine bs_s_bsw hC hI hg6 hwd7 dJ0_clear_2_60 (fun H locs hI => ?_)
      refine lv_aload_n hx hb dJ0_clear_2_61 rfl (lv_at hl 1 rfl) ?_
      obtain ⟨r8, u9, hz10, hF⟩ := ob_some hF
      refine k_J0_bs_recalculateWordsInUse hC h0 hZ hI hz10 (Nat.le_of_ble_eq_true rfl) (Nat.le_of_ble_eq_true rfl) hl.1 (Nat.le_of_ble_eq_true rfl) dJ0_clear_2_62 (fun H locs hI => ?_)
      refine lv_aload_n hx hb dJ0_clear_2_65 rfl (lv_at hl 1 rfl) ?_
      obtain ⟨r11, hz12, hF⟩ := ov_some hF
      refine k_J0_bs_checkInvariants hC h0 hZ hI hz12 (Nat.le_of_ble_eq_true rfl) (Nat.le_of_ble_eq_true rfl) hl.1 (Nat.le_of_ble_eq_true rfl) dJ0_clear_2_66 ?_
      cases hF
      exact W.vret hx hb hr (fun t ht hW => ⟨⟨_, rfl, rfl, by rw [ht]; exact hI.1, va_K.moved hW.alike hC.2.2.2.2.2.2.1, hI.2.1⟩, hI.2.2.F ht⟩) hI.2.2.2.2 dJ0_clear_2_69 hC.2.2.2.2.2.1
    · have hF := if_f hF c4
      cases hF
      exact W.vret hx hb hr (fun t ht hW => ⟨⟨_, rfl, rfl, by rw [ht]; exact hI.1, va_K.moved hW.alike hC.2.2.2.2.2.2.1, hI.2.1⟩, hI.2.2.F ht⟩) hI.2.2.2.2 dJ0_clear_2_44 hC.2.2.2.2.2.1
  · exact absurd c1 h9
def f_bs_clear_L0 (kont : Int32 → (Nat → Int64) → Option (Int32 × Int32 × (Nat → Int64))) : Nat → Int32 → (Nat → Int64) → Option (Int32 × Int32 × (Nat → Int64))
  | 0, _, _ => none
  | n + 1, x_us, x_wd => if (x_us) ≤ 0 then (kont x_us x_wd) else (lt (((x_us) - 1)) (fun us6 => gd (gi ((x_us) - 1) 1) (lt (vp_updL x_wd ((x_us) - 1).toNatClampNeg 0) (fun wd8 => f_bs_clear_L0 kont n us6 wd8))))
def f_bs_clear (us : Int32) (wd : Nat → Int64) : Option ((Int32 × Int32 × (Nat → Int64))) := if (us) ≤ 0 then (some (0, (us, wd))) else (lt (((us) - 1)) (fun us2 => gd (gi ((us) - 1) 1) (lt (vp_updL wd ((us) - 1).toNatClampNeg 0) (fun wd4 => f_bs_clear_L0 (fun us9 wd10 => some (0, (us9, wd10))) 3 us2 wd4))))
set_option maxHeartbeats 4000000 in
theorem w_bs_clear_L0 {p : Program} {l : Launch} {e : Env} {R : Room} {s s0 : State} {b0 : Addr} {m : MethodId} {args : Array Value} {below : List Frame} {meth : Method} {c : Code} {G : va_G} {ai : Nat → ClassId} {A : Nat → Prop} {b bw : Nat} {tl : va_W} {r0 : Int32} {u0 : Int32 × (Nat → Int64)} (hC : mo_C p R s m args meth c G ai A RJ0 cJ0_clear 1 0 0 0 0) (h0 : mo_S0 s0 b0) (hZ : mo_Z s0 A s) (hr : meth.sig.returnType = none) (kont : Int32 → (Nat → Int64) → Option (Int32 × Int32 × (Nat → Int64))) (K : ∀ (x_us : Int32) (x_wd : Nat → Int64) (H : Heap) (locs : List Loc) (ls : Array Slot), kont x_us x_wd = some (r0, u0) → mo_I G A s.heap (bs_C ai b bw x_us x_wd ++ tl) H locs → lv_has ls 1 [] → W p l e R s m args below meth c H locs 0 0 (MQ below (va_Qv (fun (u : Int32 × (Nat → Int64)) => u = u0) (gw_E G ai (fun (u : Int32 × (Nat → Int64)) => (bs_C ai b bw u.1 u.2 ++ tl)) A) A) args s 0 0 A) (F0 m 27 ls [])) :
    ∀ (n : Nat) (x_us : Int32) (x_wd : Nat → Int64) (H : Heap) (locs : List Loc) (ls : Array Slot), f_bs_clear_L0 kont n x_us x_wd = some (r0, u0) → mo_I G A s.heap (bs_C ai b bw x_us x_wd ++ tl) H locs → lv_has ls 1 [(0, .ref b)] → W p l e R s m args below meth c H locs 0 0 (MQ below (va_Qv (fun (u : Int32 × (Nat → Int64)) => u = u0) (gw_E G ai (fun (u : Int32 × (Nat → Int64)) => (bs_C ai b bw u.1 u.2 ++ tl)) A) A) args s 0 0 A) (F0 m 0 ls []) := by
  have hx := hC.1
  have hb := hC.2.1
  intro n
  induction n with
  | zero =>
    intro x_us x_wd H locs ls hF
    have h0 : (none : Option (Int32 × Int32 × (Nat → Int64))) = some (r0, u0) := hF
    cases h0
  | succ n ih =>
    intro x_us x_wd H locs ls hF hI hl
    rw [f_bs_clear_L0] at hF
    refine lv_aload_n hx hb dJ0_clear_0 rfl (lv_at hl 0 rfl) ?_
    refine bs_J0_g_bs_wordsInUse hC h0 hZ hI dJ0_clear_1 ?_
    refine lv_if_le (tgt := 27) hx hb dJ0_clear_4 (by decide) (fun c5 => ?_) (fun c5 => ?_)
    · have hF := if_t hF c5
      exact K _ _ _ _ _ hF hI (lv_sub hl [] rfl)
    · have hF := if_f hF c5
      refine lv_aload_n hx hb dJ0_clear_7 rfl (lv_at hl 0 rfl) ?_
      refine bs_J0_g_bs_words hC h0 hZ hI dJ0_clear_8 ?_
      refine lv_aload_n hx hb dJ0_clear_11 rfl (lv_at hl 0 rfl) ?_
      refine lv_dup hx hb dJ0_clear_12 rfl ?_
      refine bs_J0_g_bs_wordsInUse hC h0 hZ hI dJ0_clear_13 ?_
      refine lv_iconst (v := 1) hx hb dJ0_clear_16 (by decide) ?_
      refine lv_isub hx hb dJ0_clear_17 ?_
      refine lv_dup_x1 hx hb dJ0_clear_18 rfl rfl ?_
      obtain ⟨us6, hus6, hF⟩ := lt_some hF
      refine bs_J0_p_bs_wordsInUse hC h0 hZ hI hus6 dJ0_clear_19 (fun H locs hI => ?_)
      refine lv_lconst (v := 0) hx hb dJ0_clear_22 (by decide) ?_
      obtain ⟨hg7, hF⟩ := gd_some hF
      obtain ⟨wd8, hwd8, hF⟩ := lt_some hF
      refine bs_s_bsw hC hI hg7 hwd8 dJ0_clear_23 (fun H locs hI => ?_)
      refine lv_goto (tgt := 0) hx hb dJ0_clear_24 (by decide) ?_
      exact ih _ _ _ _ _ hF hI (lv_sub hl [0] rfl)
set_option maxHeartbeats 4000000 in
theorem w_bs_clear (l : Launch) (G : va_G) (ai : Nat → ClassId) {s0 : State} {b0 : Addr} (h0 : mo_S0 s0 b0) {b bw : Nat} {tl : va_W} (us : Int32) (wd : Nat → Int64) (r0 : Int32) (u0 : Int32 × (Nat → Int64)) (hF : f_bs_clear us wd = some (r0, u0)) : gz_Mv l G ai s0 (fun (u : Int32 × (Nat → Int64)) => (bs_C ai b bw u.1 u.2 ++ tl)) yJ0_clear cJ0_clear 1 ({ frames := 0, cells := 0, slots := 0, locals := 0 } : Room) [.ref b] (bs_C ai b bw us wd ++ tl) (fun (u : Int32 × (Nat → Int64)) => u = u0) 0 0 := by
  refine gz_body (Qc := fun A => va_Qv (fun (u : Int32 × (Nat → Int64)) => u = u0) (gw_E G ai (fun (u : Int32 × (Nat → Int64)) => (bs_C ai b bw u.1 u.2 ++ tl)) A) A) (fr := fun A => A) (by decide) (Nat.le_of_ble_eq_true rfl) ?_
  intro p e s m args below meth c A ls hC hZ hr hI hl hnm
  have hx := hC.1
  have hb := hC.2.1
  have hl : lv_has ls 1 [(0, .ref b)] := hl
  show W p l e _ s m args below meth c s.heap [] 0 0 (MQ below (va_Qv (fun (u : Int32 × (Nat → Int64)) => u = u0) (gw_E G ai (fun (u : Int32 × (Nat → Int64)) => (bs_C ai b bw u.1 u.2 ++ tl)) A) A) args s 0 0 A) (F0 m 0 ls [])
  rw [f_bs_clear] at hF
  refine lv_aload_n hx hb dJ0_clear_0 rfl (lv_at hl 0 rfl) ?_
  refine bs_J0_g_bs_wordsInUse hC h0 hZ hI dJ0_clear_1 ?_
  refine lv_if_le (tgt := 27) hx hb dJ0_clear_4 (by decide) (fun c1 => ?_) (fun c1 => ?_)
  · have hF := if_t hF c1
    cases hF
    exact W.vret hx hb hr (fun t ht hW => ⟨⟨_, rfl, rfl, by rw [ht]; exact hI.1, va_K.moved hW.alike hC.2.2.2.2.2.2.1, hI.2.1⟩, hI.2.2.F ht⟩) hI.2.2.2.2 dJ0_clear_27 hC.2.2.2.2.2.1
  · have hF := if_f hF c1
    refine lv_aload_n hx hb dJ0_clear_7 rfl (lv_at hl 0 rfl) ?_
    refine bs_J0_g_bs_words hC h0 hZ hI dJ0_clear_8 ?_
    refine lv_aload_n hx hb dJ0_clear_11 rfl (lv_at hl 0 rfl) ?_
    refine lv_dup hx hb dJ0_clear_12 rfl ?_
    refine bs_J0_g_bs_wordsInUse hC h0 hZ hI dJ0_clear_13 ?_
    refine lv_iconst (v := 1) hx hb dJ0_clear_16 (by decide) ?_
    refine lv_isub hx hb dJ0_clear_17 ?_
    refine lv_dup_x1 hx hb dJ0_clear_18 rfl rfl ?_
    obtain ⟨us2, hus2, hF⟩ := lt_some hF
    refine bs_J0_p_bs_wordsInUse hC h0 hZ hI hus2 dJ0_clear_19 (fun H locs hI => ?_)
    refine lv_lconst (v := 0) hx hb dJ0_clear_22 (by decide) ?_
    obtain ⟨hg3, hF⟩ := gd_some hF
    obtain ⟨wd4, hwd4, hF⟩ := lt_some hF
    refine bs_s_bsw hC hI hg3 hwd4 dJ0_clear_23 (fun H locs hI => ?_)
    refine lv_goto (tgt := 0) hx hb dJ0_clear_24 (by decide) ?_
    refine w_bs_clear_L0 hC h0 hZ hr _ (fun us9 wd10 H locs ls hF hI hl => ?_) 3 _ _ _ _ _ hF hI (lv_sub hl [0] rfl)
    cases hF
    exact W.vret hx hb hr (fun t ht hW => ⟨⟨_, rfl, rfl, by rw [ht]; exact hI.1, va_K.moved hW.alike hC.2.2.2.2.2.2.1, hI.2.1⟩, hI.2.2.F ht⟩) hI.2.2.2.2 dJ0_clear_27 hC.2.2.2.2.2.1

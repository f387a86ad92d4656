set_option maxRecDepth 100000
def f_Side_of (a0 : Int32) : Option Int32 := if a0 = 101 then (some 2) else if a0 = 110 then (some 0) else if a0 = 115 then (some 3) else if a0 = 119 then (some 1) else (some (-1))
set_option maxHeartbeats 4000000 in
theorem w_Side_of (l : Launch) (G : va_G) (ai : Nat → ClassId) {s0 : State} {b0 : Addr} (h0 : mo_S0 s0 b0) {tl : va_W} (a0 : Int32) (r0 : Int32) (hF : f_Side_of a0 = some r0) : rd_Met l G ai s0 yX8_of cX8_of 1 (some (.object "MossLawn$Side")) ({ frames := 0, cells := 0, slots := 0, locals := 0 } : Room) [.int a0] tl (sd_val s0 b0 r0) := by
  refine gz_body (Qc := fun _ => rd_Q (sd_val s0 b0 r0)) (fr := fun _ _ => False) (by decide) (Nat.le_of_ble_eq_true rfl) ?_
  intro p e s m args below meth c A ls hC hZ hr hI hl hnm
  have hx := hC.1
  have hb := hC.2.1
  have hl : lv_has ls 1 [(0, .int a0)] := hl
  show W p l e _ s m args below meth c s.heap [] 0 0 (MQ below (rd_Q (sd_val s0 b0 r0)) args s 0 0 (fun _ => False)) (F0 m 0 ls [])
  rw [f_Side_of] at hF
  refine lv_iload_n hx hb dX8_of_0 rfl (lv_at hl 0 rfl) ?_
  by_cases c1 : a0 = 101
  · have hF := if_t hF c1
    refine lv_lookup (tgt := 48) (off := 47) hx hb dX8_of_1 (by decide) (by rw [c1]; decide) (by decide) ?_
    refine va_gets hx hb (z_sd h0 hZ (i := 2) (by decide)) hI.2.2 hC.2.2.2.1 (hC.2.2.2.2.1 _ q982) (fun _ h9 => h9) dX8_of_48 ?_
    have hF := Option.some.inj hF
    subst hF
    exact rd_aret hC hr (Or.inl ⟨_, rfl⟩) (Or.inr ⟨_, rfl⟩) dX8_of_51
  have hF := if_f hF c1
  by_cases c2 : a0 = 110
  · have hF := if_t hF c2
    refine lv_lookup (tgt := 44) (off := 43) hx hb dX8_of_1 (by decide) (by rw [c2]; decide) (by decide) ?_
    refine va_gets hx hb (z_sd h0 hZ (i := 0) (by decide)) hI.2.2 hC.2.2.2.1 (hC.2.2.2.2.1 _ q981) (fun _ h9 => h9) dX8_of_44 ?_
    have hF := Option.some.inj hF
    subst hF
    exact rd_aret hC hr (Or.inl ⟨_, rfl⟩) (Or.inr ⟨_, rfl⟩) dX8_of_47
  have hF := if_f hF c2
  by_cases c3 : a0 = 115
  · have hF := if_t hF c3
    refine lv_lookup (tgt := 52) (off := 51) hx hb dX8_of_1 (by decide) (by rw [c3]; decide) (by decide) ?_
    refine va_gets hx hb (z_sd h0 hZ (i := 3) (by decide)) hI.2.2 hC.2.2.2.1 (hC.2.2.2.2.1 _ q983) (fun _ h9 => h9) dX8_of_52 ?_
    have hF := Option.some.inj hF
    subst hF
    exact rd_aret hC hr (Or.inl ⟨_, rfl⟩) (Or.inr ⟨_, rfl⟩) dX8_of_55
  have hF := if_f hF c3
  by_cases c4 : a0 = 119
  · have hF := if_t hF c4
    refine lv_lookup (tgt := 56) (off := 55) hx hb dX8_of_1 (by decide) (by rw [c4]; decide) (by decide) ?_
    refine va_gets hx hb (z_sd h0 hZ (i := 1) (by decide)) hI.2.2 hC.2.2.2.1 (hC.2.2.2.2.1 _ q984) (fun _ h9 => h9) dX8_of_56 ?_
    have hF := Option.some.inj hF
    subst hF
    exact rd_aret hC hr (Or.inl ⟨_, rfl⟩) (Or.inr ⟨_, rfl⟩) dX8_of_59
  have hF := if_f hF c4
  refine lv_lookup (tgt := 60) (off := 59) hx hb dX8_of_1 (by decide) (lk_out (List.forall_mem_cons.mpr ⟨lk_ne c1 (by decide), List.forall_mem_cons.mpr ⟨lk_ne c2 (by decide), List.forall_mem_cons.mpr ⟨lk_ne c3 (by decide), List.forall_mem_cons.mpr ⟨lk_ne c4 (by decide), fun _ h9 => absurd h9 List.not_mem_nil⟩⟩⟩⟩)) (by decide) ?_
  refine lv_null hx hb dX8_of_60 ?_
  have hF := Option.some.inj hF
  subst hF
  exact rd_aret hC hr (Or.inl ⟨_, rfl⟩) (Or.inl rfl) dX8_of_61
theorem k_X0_Side_of {p : Program} {l : Launch} {e : Env} {R : Room} {s s0 : State} {b0 : Addr} {m : MethodId} {args : Array Value} {below : List Frame} {meth : Method} {c : Code} {H : Heap} {locs : List Loc} {cells slots : Nat} {Q : State → Prop} {pc : Nat} {ls : Array Slot} {rest : List Value} {G : va_G} {ai : Nat → ClassId} {A : Nat → Prop} {cc : ByteArray} {nL f L kc ks : Nat} {tl : va_W}  {a0 : Int32}  {r1 : Int32} (hC : mo_C p R s m args meth c G ai A RX0 cc nL f L kc ks) (h0 : mo_S0 s0 b0) (hZ : mo_Z s0 A s) (hI : mo_I G A s.heap tl H locs) (hz : f_Side_of a0 = some r1) (hf : 0 + 1 ≤ f) (hL : 8 + (1 + 11) + 0 ≤ L) (hsz : ls.size = nL) (hW : (rest.map fun v => v.category).sum ≤ 8) (hdg : decode cc pc = .ok (.invokestatic 256, 3)) (kk : W p l e R s m args below meth c H locs cells slots Q (F0 m (pc + 3) ls (sd_val s0 b0 r1 :: rest))) (hc0 : cells ≤ kc := by first | exact Nat.zero_le _ | exact Nat.le_of_ble_eq_true rfl | assumption | omega) (hs0 : slots ≤ ks := by first | exact Nat.zero_le _ | exact Nat.le_of_ble_eq_true rfl | assumption | omega) : W p l e R s m args below meth c H locs cells slots Q (F0 m pc ls (.int a0 :: rest)) :=
  rd_use (va_runS (As := [.int a0]) (rest := rest) ⟨hC.1, hC.2.1, hC.2.2.1, hC.2.2.2.1, hC.2.2.2.2.1⟩ (w_Side_of l G ai h0 a0 r1 hz H.size) (va_cwS 1 hC.2.2.2.2.1 (lw_S q978 q979 q129 q980) rfl rfl rfl (by decide +kernel) ⟨Nat.le_trans hf hC.2.2.2.2.2.2.2.2.1, Nat.le_trans hL hC.2.2.2.2.2.2.2.2.2.1⟩) ⟨gz_blind, gz_pre0 hC hZ hI⟩ rfl rfl hsz rfl (lv_room hW) hdg ⟨Nat.le_trans hc0 hC.2.2.2.2.2.2.2.2.2.2.1, Nat.le_trans hs0 hC.2.2.2.2.2.2.2.2.2.2.2⟩) kk
theorem k_X1_Side_of {p : Program} {l : Launch} {e : Env} {R : Room} {s s0 : State} {b0 : Addr} {m : MethodId} {args : Array Value} {below : List Frame} {meth : Method} {c : Code} {H : Heap} {locs : List Loc} {cells slots : Nat} {Q : State → Prop} {pc : Nat} {ls : Array Slot} {rest : List Value} {G : va_G} {ai : Nat → ClassId} {A : Nat → Prop} {cc : ByteArray} {nL f L kc ks : Nat} {tl : va_W}  {a0 : Int32}  {r1 : Int32} (hC : mo_C p R s m args meth c G ai A RX1 cc nL f L kc ks) (h0 : mo_S0 s0 b0) (hZ : mo_Z s0 A s) (hI : mo_I G A s.heap tl H locs) (hz : f_Side_of a0 = some r1) (hf : 0 + 1 ≤ f) (hL : 8 + (1 + 11) + 0 ≤ L) (hsz : ls.size = nL) (hW : (rest.map fun v => v.category).sum ≤ 8) (hdg : decode cc pc = .ok (.invokestatic 141, 3)) (kk : W p l e R s m args below meth c H locs cells slots Q (F0 m (pc + 3) ls (sd_val s0 b0 r1 :: rest))) (hc0 : cells ≤ kc := by first | exact Nat.zero_le _ | exact Nat.le_of_ble_eq_true rfl | assumption | omega) (hs0 : slots ≤ ks := by first | exact Nat.zero_le _ | exact Nat.le_of_ble_eq_true rfl | assumption | omega) : W p l e R s m args below meth c H locs cells slots Q (F0 m pc ls (.int a0 :: rest)) :=
  rd_use (va_runS (As := [.int a0]) (rest := rest) ⟨hC.1, hC.2.1, hC.2.2.1, hC.2.2.2.1, hC.2.2.2.2.1⟩ (w_Side_of l G ai h0 a0 r1 hz H.size) (va_cwS 1 hC.2.2.2.2.1 (lw_S q1121 q979 q129 q980) rfl rfl rfl (by decide +kernel) ⟨Nat.le_trans hf hC.2.2.2.2.2.2.2.2.1, Nat.le_trans hL hC.2.2.2.2.2.2.2.2.2.1⟩) ⟨gz_blind, gz_pre0 hC hZ hI⟩ rfl rfl hsz rfl (lv_room hW) hdg ⟨Nat.le_trans hc0 hC.2.2.2.2.2.2.2.2.2.2.1, Nat.le_trans hs0 hC.2.2.2.2.2.2.2.2.2.2.2⟩) kk
def p_s0 (a1 : Int32) : Int32 := if a1 < 6 then ((-1)) else ((a1 - 6))
theorem n_s0 (l : Launch) (q : Nat) (a1 v0 : Int32) (hF : p_s0 a1 = v0) : ni_Body l yX14_from cX14_from 2 (some .int) ({ frames := 0, cells := 0, slots := 0, locals := 0 } : Room) [Value.ref q, Value.int a1].toArray (.int v0) := by
  intro p e s m below meth c hx hb hml hr hlk
  have hl := lv_entry [Value.ref q, Value.int a1] (n := 2) (Nat.le_of_ble_eq_true rfl)
  rw [lg_entry_eq]
  generalize (lg_sl [Value.ref q, Value.int a1] ++ List.replicate (2 - (lg_sl [Value.ref q, Value.int a1]).length) Slot.unset).toArray = ls at hl ⊢
  have hl : lv_has ls 2 [(0, .ref q), (1, .int a1)] := hl
  show W p l e _ s m _ below meth c s.heap [] 0 0 _ (F0 m 0 ls [])
  rw [p_s0] at hF
  refine lv_iload_n hx hb dX14_from_0 rfl (lv_at hl 1 rfl) ?_
  refine lv_bipush (v := 6) hx hb dX14_from_1 (by decide) ?_
  refine lv_icmp_lt (tgt := 13) hx hb dX14_from_3 (by decide) (fun c1 => ?_) (fun c1 => ?_)
  · have hF := if_tv hF c1
    refine lv_iconst (v := (-1)) hx hb dX14_from_13 (by decide) ?_
    subst hF
    exact ni_iret hx hb hr hlk dX14_from_14
  · have hF := if_fv hF c1
    refine lv_iload_n hx hb dX14_from_6 rfl (lv_at hl 1 rfl) ?_
    refine lv_bipush (v := 6) hx hb dX14_from_7 (by decide) ?_
    refine lv_isub hx hb dX14_from_9 ?_
    refine lv_goto (tgt := 14) hx hb dX14_from_10 (by decide) ?_
    subst hF
    exact ni_iret hx hb hr hlk dX14_from_14
def p_s1 (a1 : Int32) : Int32 := if (a1 - a1 / 6 * 6) ≤ 0 then ((-1)) else ((a1 - 1))
theorem n_s1 (l : Launch) (q : Nat) (a1 v0 : Int32) (hF : p_s1 a1 = v0) : ni_Body l yX15_from cX15_from 2 (some .int) ({ frames := 0, cells := 0, slots := 0, locals := 0 } : Room) [Value.ref q, Value.int a1].toArray (.int v0) := by
  intro p e s m below meth c hx hb hml hr hlk
  have hl := lv_entry [Value.ref q, Value.int a1] (n := 2) (Nat.le_of_ble_eq_true rfl)
  rw [lg_entry_eq]
  generalize (lg_sl [Value.ref q, Value.int a1] ++ List.replicate (2 - (lg_sl [Value.ref q, Value.int a1]).length) Slot.unset).toArray = ls at hl ⊢
  have hl : lv_has ls 2 [(0, .ref q), (1, .int a1)] := hl
  show W p l e _ s m _ below meth c s.heap [] 0 0 _ (F0 m 0 ls [])
  rw [p_s1] at hF
  refine lv_iload_n hx hb dX15_from_0 rfl (lv_at hl 1 rfl) ?_
  refine lv_bipush (v := 6) hx hb dX15_from_1 (by decide) ?_
  refine lv_irem hx hb dX15_from_3 (by decide) ?_
  refine lv_if_le (tgt := 13) hx hb dX15_from_4 (by decide) (fun c1 => ?_) (fun c1 => ?_)
  · have hF := if_tv hF c1
    refine lv_iconst (v := (-1)) hx hb dX15_from_13 (by decide) ?_
    subst hF
    exact ni_iret hx hb hr hlk dX15_from_14
  · have hF := if_fv hF c1
    refine lv_iload_n hx hb dX15_from_7 rfl (lv_at hl 1 rfl) ?_
    refine lv_iconst (v := 1) hx hb dX15_from_8 (by decide) ?_
    refine lv_isub hx hb dX15_from_9 ?_
    refine lv_goto (tgt := 14) hx hb dX15_from_10 (by decide) ?_
    subst hF
    exact ni_iret hx hb hr hlk dX15_from_14
def p_s2 (a1 : Int32) : Int32 := if 5 ≤ (a1 - a1 / 6 * 6) then ((-1)) else ((a1 + 1))
theorem n_s2 (l : Launch) (q : Nat) (a1 v0 : Int32) (hF : p_s2 a1 = v0) : ni_Body l yX16_from cX16_from 2 (some .int) ({ frames := 0, cells := 0, slots := 0, locals := 0 } : Room) [Value.ref q, Value.int a1].toArray (.int v0) := by
  intro p e s m below meth c hx hb hml hr hlk
  have hl := lv_entry [Value.ref q, Value.int a1] (n := 2) (Nat.le_of_ble_eq_true rfl)
  rw [lg_entry_eq]
  generalize (lg_sl [Value.ref q, Value.int a1] ++ List.replicate (2 - (lg_sl [Value.ref q, Value.int a1]).length) Slot.unset).toArray = ls at hl ⊢
  have hl : lv_has ls 2 [(0, .ref q), (1, .int a1)] := hl
  show W p l e _ s m _ below meth c s.heap [] 0 0 _ (F0 m 0 ls [])
  rw [p_s2] at hF
  refine lv_iload_n hx hb dX16_from_0 rfl (lv_at hl 1 rfl) ?_
  refine lv_bipush (v := 6) hx hb dX16_from_1 (by decide) ?_
  refine lv_irem hx hb dX16_from_3 (by decide) ?_
  refine lv_iconst (v := 5) hx hb dX16_from_4 (by decide) ?_
  refine lv_icmp_ge (tgt := 14) hx hb dX16_from_5 (by decide) (fun c1 => ?_) (fun c1 => ?_)
  · have hF := if_tv hF c1
    refine lv_iconst (v := (-1)) hx hb dX16_from_14 (by decide) ?_
    subst hF
    exact ni_iret hx hb hr hlk dX16_from_15
  · have hF := if_fv hF c1
    refine lv_iload_n hx hb dX16_from_8 rfl (lv_at hl 1 rfl) ?_
    refine lv_iconst (v := 1) hx hb dX16_from_9 (by decide) ?_
    refine lv_iadd hx hb dX16_from_10 ?_
    refine lv_goto (tgt := 15) hx hb dX16_from_11 (by decide) ?_
    subst hF
    exact ni_iret hx hb hr hlk dX16_from_15
def p_s3 (a1 : Int32) : Int32 := if 30 ≤ (a1 + 6) then ((-1)) else ((a1 + 6))
theorem n_s3 (l : Launch) (q : Nat) (a1 v0 : Int32) (hF : p_s3 a1 = v0) : ni_Body l yX17_from cX17_from 2 (some .int) ({ frames := 0, cells := 0, slots := 0, locals := 0 } : Room) [Value.ref q, Value.int a1].toArray (.int v0) := by
  intro p e s m below meth c hx hb hml hr hlk
  have hl := lv_entry [Value.ref q, Value.int a1] (n := 2) (Nat.le_of_ble_eq_true rfl)
  rw [lg_entry_eq]
  generalize (lg_sl [Value.ref q, Value.int a1] ++ List.replicate (2 - (lg_sl [Value.ref q, Value.int a1]).length) Slot.unset).toArray = ls at hl ⊢
  have hl : lv_has ls 2 [(0, .ref q), (1, .int a1)] := hl
  show W p l e _ s m _ below meth c s.heap [] 0 0 _ (F0 m 0 ls [])
  rw [p_s3] at hF
  refine lv_iload_n hx hb dX17_from_0 rfl (lv_at hl 1 rfl) ?_
  refine lv_bipush (v := 6) hx hb dX17_from_1 (by decide) ?_
  refine lv_iadd hx hb dX17_from_3 ?_
  refine lv_bipush (v := 30) hx hb dX17_from_4 (by decide) ?_
  refine lv_icmp_ge (tgt := 16) hx hb dX17_from_6 (by decide) (fun c1 => ?_) (fun c1 => ?_)
  · have hF := if_tv hF c1
    refine lv_iconst (v := (-1)) hx hb dX17_from_16 (by decide) ?_
    subst hF
    exact ni_iret hx hb hr hlk dX17_from_17
  · have hF := if_fv hF c1
    refine lv_iload_n hx hb dX17_from_9 rfl (lv_at hl 1 rfl) ?_
    refine lv_bipush (v := 6) hx hb dX17_from_10 (by decide) ?_
    refine lv_iadd hx hb dX17_from_12 ?_
    refine lv_goto (tgt := 17) hx hb dX17_from_13 (by decide) ?_
    subst hF
    exact ni_iret hx hb hr hlk dX17_from_17
def p_sd (i q : Int32) : Int32 := if i = 0 then p_s0 q else if i = 1 then p_s1 q else if i = 2 then p_s2 q else p_s3 q
theorem k_X0_from {p : Program} {l : Launch} {e : Env} {R : Room} {s s0 : State} {b0 : Addr} {m : MethodId} {args : Array Value} {below : List Frame} {meth : Method} {c : Code} {H : Heap} {locs : List Loc} {cells slots : Nat} {Q : State → Prop} {pc : Nat} {ls : Array Slot} {rest : List Value} {G : va_G} {ai : Nat → ClassId} {A : Nat → Prop} {cc : ByteArray} {nL f L kc ks : Nat} {tl : va_W} {i x : Int32} (hC : mo_C p R s m args meth c G ai A RX0 cc nL f L kc ks) (h0 : mo_S0 s0 b0) (hZ : mo_Z s0 A s) (hI : mo_I G A s.heap tl H locs) (hj : gi i 4 = true) (hf : 0 + 1 ≤ f) (hL : 8 + (2 + 11) + 0 ≤ L) (hsz : ls.size = nL) (hW : (rest.map fun v => v.category).sum ≤ 8) (hdg : decode cc pc = .ok (.invokevirtual 262, 3)) (kk : W p l e R s m args below meth c H locs cells slots Q (F0 m (pc + 3) ls (.int (p_sd i x) :: rest))) (hc0 : cells ≤ kc := by first | exact Nat.zero_le _ | exact Nat.le_of_ble_eq_true rfl | assumption | omega) (hs0 : slots ≤ ks := by first | exact Nat.zero_le _ | exact Nat.le_of_ble_eq_true rfl | assumption | omega) : W p l e R s m args below meth c H locs cells slots Q (F0 m pc ls (.int x :: .ref (sdv s0 b0 i.toNatClampNeg) :: rest)) := by
  obtain ⟨j, hj1, rfl, hc⟩ := gi_nI (by decide) hj
  rw [hc]
  match j, hj1 with
  | 0, _ => exact rd_use (v := .int (p_sd (nI 0) x)) (ni_run (As := [.int x]) (C := RX14) (owner := "MossLawn$Side") (mo_CN hC) (n_s0 l _ x _ rfl) (by decide) rfl rfl hf hL q985 q987 (va_Decl.abs (mo_nD h0 hZ q986)) ⟨by decide, by decide⟩ q988 q989 q990 (va_Orecv (z_sdO h0 hZ (i := 0) (by decide)) hI.2.2) rfl (n := 1) (by decide +kernel) rfl hsz rfl (lv_room hW) hdg (Nat.le_trans hc0 hC.2.2.2.2.2.2.2.2.2.2.1) (Nat.le_trans hs0 hC.2.2.2.2.2.2.2.2.2.2.2)) kk
  | 1, _ => exact rd_use (v := .int (p_sd (nI 1) x)) (ni_run (As := [.int x]) (C := RX15) (owner := "MossLawn$Side") (mo_CN hC) (n_s1 l _ x _ rfl) (by decide) rfl rfl hf hL q985 q987 (va_Decl.abs (mo_nD h0 hZ q986)) ⟨by decide, by decide⟩ q991 q992 q993 (va_Orecv (z_sdO h0 hZ (i := 1) (by decide)) hI.2.2) rfl (n := 1) (by decide +kernel) rfl hsz rfl (lv_room hW) hdg (Nat.le_trans hc0 hC.2.2.2.2.2.2.2.2.2.2.1) (Nat.le_trans hs0 hC.2.2.2.2.2.2.2.2.2.2.2)) kk
  | 2, _ => exact rd_use (v := .int (p_sd (nI 2) x)) (ni_run (As := [.int x]) (C := RX16) (owner := "MossLawn$Side") (mo_CN hC) (n_s2 l _ x _ rfl) (by decide) rfl rfl hf hL q985 q987 (va_Decl.abs (mo_nD h0 hZ q986)) ⟨by decide, by decide⟩ q994 q995 q996 (va_Orecv (z_sdO h0 hZ (i := 2) (by decide)) hI.2.2) rfl (n := 1) (by decide +kernel) rfl hsz rfl (lv_room hW) hdg (Nat.le_trans hc0 hC.2.2.2.2.2.2.2.2.2.2.1) (Nat.le_trans hs0 hC.2.2.2.2.2.2.2.2.2.2.2)) kk
  | 3, _ => exact rd_use (v := .int (p_sd (nI 3) x)) (ni_run (As := [.int x]) (C := RX17) (owner := "MossLawn$Side") (mo_CN hC) (n_s3 l _ x _ rfl) (by decide) rfl rfl hf hL q985 q987 (va_Decl.abs (mo_nD h0 hZ q986)) ⟨by decide, by decide⟩ q997 q998 q999 (va_Orecv (z_sdO h0 hZ (i := 3) (by decide)) hI.2.2) rfl (n := 1) (by decide +kernel) rfl hsz rfl (lv_room hW) hdg (Nat.le_trans hc0 hC.2.2.2.2.2.2.2.2.2.2.1) (Nat.le_trans hs0 hC.2.2.2.2.2.2.2.2.2.2.2)) kk

theorem k_X1_from {p : Program} {l : Launch} {e : Env} {R : Room} {s s0 : State} {b0 : Addr} {m : MethodId} {args : Array Value} {below : List Frame} {meth : Method} {c : Code} {H : Heap} {locs : List Loc} {cells slots : Nat} {Q : State → Prop} {pc : Nat} {ls : Array Slot} {rest : List Value} {G : va_G} {ai : Nat → ClassId} {A : Nat → Prop} {cc : ByteArray} {nL f L kc ks : Nat} {tl : va_W} {i x : Int32} (hC : mo_C p R s m args meth c G ai A RX1 cc nL f L kc ks) (h0 : mo_S0 s0 b0) (hZ : mo_Z s0 A s) (hI : mo_I G A s.heap tl H locs) (hj : gi i 4 = true) (hf : 0 + 1 ≤ f) (hL : 8 + (2 + 11) + 0 ≤ L) (hsz : ls.size = nL) (hW : (rest.map fun v => v.category).sum ≤ 8) (hdg : decode cc pc = .ok (.invokevirtual 147, 3)) (kk : W p l e R s m args below meth c H locs cells slots Q (F0 m (pc + 3) ls (.int (p_sd i x) :: rest))) (hc0 : cells ≤ kc := by first | exact Nat.zero_le _ | exact Nat.le_of_ble_eq_true rfl | assumption | omega) (hs0 : slots ≤ ks := by first | exact Nat.zero_le _ | exact Nat.le_of_ble_eq_true rfl | assumption | omega) : W p l e R s m args below meth c H locs cells slots Q (F0 m pc ls (.int x :: .ref (sdv s0 b0 i.toNatClampNeg) :: rest)) := by
  obtain ⟨j, hj1, rfl, hc⟩ := gi_nI (by decide) hj
  rw [hc]
  match j, hj1 with
  | 0, _ => exact rd_use (v := .int (p_sd (nI 0) x)) (ni_run (As := [.int x]) (C := RX14) (owner := "MossLawn$Side") (mo_CN hC) (n_s0 l _ x _ rfl) (by decide) rfl rfl hf hL q1122 q987 (va_Decl.abs (mo_nD h0 hZ q986)) ⟨by decide, by decide⟩ q988 q989 q990 (va_Orecv (z_sdO h0 hZ (i := 0) (by decide)) hI.2.2) rfl (n := 1) (by decide +kernel) rfl hsz rfl (lv_room hW) hdg (Nat.le_trans hc0 hC.2.2.2.2.2.2.2.2.2.2.1) (Nat.le_trans hs0 hC.2.2.2.2.2.2.2.2.2.2.2)) kk
  | 1, _ => exact rd_use (v := .int (p_sd (nI 1) x)) (ni_run (As := [.int x]) (C := RX15) (owner := "MossLawn$Side") (mo_CN hC) (n_s1 l _ x _ rfl) (by decide) rfl rfl hf hL q1122 q987 (va_Decl.abs (mo_nD h0 hZ q986)) ⟨by decide, by decide⟩ q991 q992 q993 (va_Orecv (z_sdO h0 hZ (i := 1) (by decide)) hI.2.2) rfl (n := 1) (by decide +kernel) rfl hsz rfl (lv_room hW) hdg (Nat.le_trans hc0 hC.2.2.2.2.2.2.2.2.2.2.1) (Nat.le_trans hs0 hC.2.2.2.2.2.2.2.2.2.2.2)) kk
  | 2, _ => exact rd_use (v := .int (p_sd (nI 2) x)) (ni_run (As := [.int x]) (C := RX16) (owner := "MossLawn$Side") (mo_CN hC) (n_s2 l _ x _ rfl) (by decide) rfl rfl hf hL q1122 q987 (va_Decl.abs (mo_nD h0 hZ q986)) ⟨by decide, by decide⟩ q994 q995 q996 (va_Orecv (z_sdO h0 hZ (i := 2) (by decide)) hI.2.2) rfl (n := 1) (by decide +kernel) rfl hsz rfl (lv_room hW) hdg (Nat.le_trans hc0 hC.2.2.2.2.2.2.2.2.2.2.1) (Nat.le_trans hs0 hC.2.2.2.2.2.2.2.2.2.2.2)) kk
  | 3, _ => exact rd_use (v := .int (p_sd (nI 3) x)) (ni_run (As := [.int x]) (C := RX17) (owner := "MossLawn$Side") (mo_CN hC) (n_s3 l _ x _ rfl) (by decide) rfl rfl hf hL q1122 q987 (va_Decl.abs (mo_nD h0 hZ q986)) ⟨by decide, by decide⟩ q997 q998 q999 (va_Orecv (z_sdO h0 hZ (i := 3) (by decide)) hI.2.2) rfl (n := 1) (by decide +kernel) rfl hsz rfl (lv_room hW) hdg (Nat.le_trans hc0 hC.2.2.2.2.2.2.2.2.2.2.1) (Nat.le_trans hs0 hC.2.2.2.2.2.2.2.2.2.2.2)) kk


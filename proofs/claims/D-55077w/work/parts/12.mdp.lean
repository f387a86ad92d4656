/-! printed by tools/gen_md.py -/
set_option maxRecDepth 100000
def p_isIn (a0 : Int32) (a1 : Int32) (a2 : Int32) : Int32 := if a0 < a1 then 0 else (if a2 < a0 then 0 else 1)
theorem b_isIn (a0 : Int32) (a1 : Int32) (a2 : Int32) : p_isIn a0 a1 a2 = 0 ∨ p_isIn a0 a1 a2 = 1 := by
  unfold p_isIn
  (repeat' split) <;> simp
theorem w_isIn (l : Launch) (a0 : Int32) (a1 : Int32) (a2 : Int32) (v : Int32) (hF : p_isIn a0 a1 a2 = v) : pu_Met l yX9_isIn cX9_isIn 3 (some .boolean) ({ frames := 0, cells := 0, slots := 0, locals := 0 } : Room) [.int a0, .int a1, .int a2] (.int v) := by
  refine pu_body (by decide) (Nat.le_of_ble_eq_true rfl) ?_
  intro p e s m args below meth c ls hN hr hl
  have hx := hN.1
  have hb := hN.2.1
  have hI := trivial
  have hl : lv_has ls 3 [(0, .int a0), (1, .int a1), (2, .int a2)] := hl
  rw [p_isIn] at hF
  refine lv_iload_n hx hb dX9_isIn_0 rfl (lv_at hl 0 rfl) ?_
  refine lv_iload_n hx hb dX9_isIn_1 rfl (lv_at hl 1 rfl) ?_
  refine lv_icmp_lt (tgt := 14) hx hb dX9_isIn_2 (by decide) (fun c1 => ?_) (fun c1 => ?_)
  · have hF := if_tv hF c1
    refine lv_iconst (v := 0) hx hb dX9_isIn_14 (by decide) ?_
    subst hF
    exact pu_iret (v := 0) hN hr rfl dX9_isIn_15
  · have hF := if_fv hF c1
    refine lv_iload_n hx hb dX9_isIn_5 rfl (lv_at hl 0 rfl) ?_
    refine lv_iload_n hx hb dX9_isIn_6 rfl (lv_at hl 2 rfl) ?_
    refine lv_icmp_gt (tgt := 14) hx hb dX9_isIn_7 (by decide) (fun c2 => ?_) (fun c2 => ?_)
    · have hF := if_tv hF c2
      refine lv_iconst (v := 0) hx hb dX9_isIn_14 (by decide) ?_
      subst hF
      exact pu_iret (v := 0) hN hr rfl dX9_isIn_15
    · have hF := if_fv hF c2
      refine lv_iconst (v := 1) hx hb dX9_isIn_10 (by decide) ?_
      refine lv_goto (tgt := 15) hx hb dX9_isIn_11 (by decide) ?_
      subst hF
      exact pu_iret (v := 1) hN hr rfl dX9_isIn_15
theorem k_isIn {p : Program} {l : Launch} {e : Env} {R : Room} {s : State} {m : MethodId} {args : Array Value} {below : List Frame} {meth : Method} {c : Code} {H : Heap} {locs : List Loc} {Q : State → Prop} {pc : Nat} {ls : Array Slot} {rest : List Value} {cc : ByteArray} {nL f L : Nat} {a0 : Int32} {a1 : Int32} {a2 : Int32} (hN : mo_N p R s m args meth c RX9 cc nL f L) (hf : 0 + 1 ≤ f) (hL : 8 + (3 + 11) + 0 ≤ L) (hsz : ls.size = nL) (hW : (rest.map fun v => v.category).sum ≤ 8) (hdg : decode cc pc = .ok (.invokestatic 74, 3)) (kk : W p l e R s m args below meth c H locs 0 0 Q (F0 m (pc + 3) ls (.int (p_isIn a0 a1 a2) :: rest))) : W p l e R s m args below meth c H locs 0 0 Q (F0 m pc ls (.int a2 :: .int a1 :: .int a0 :: rest)) :=
  pu_cS hN 3 (w_isIn l a0 a1 a2 _ rfl) q2095 q2096 q142 q2097 rfl rfl (by decide +kernel) rfl hf hL (Nat.zero_le _) (Nat.zero_le _) hsz rfl hW hdg kk
def p_lesser (a0 : Int32) (a1 : Int32) : Int32 := if a1 ≤ a0 then a1 else a0
theorem w_lesser (l : Launch) (a0 : Int32) (a1 : Int32) (v : Int32) (hF : p_lesser a0 a1 = v) : pu_Met l yX9_lesser cX9_lesser 2 (some .int) ({ frames := 0, cells := 0, slots := 0, locals := 0 } : Room) [.int a0, .int a1] (.int v) := by
  refine pu_body (by decide) (Nat.le_of_ble_eq_true rfl) ?_
  intro p e s m args below meth c ls hN hr hl
  have hx := hN.1
  have hb := hN.2.1
  have hI := trivial
  have hl : lv_has ls 2 [(0, .int a0), (1, .int a1)] := hl
  rw [p_lesser] at hF
  refine lv_iload_n hx hb dX9_lesser_0 rfl (lv_at hl 0 rfl) ?_
  refine lv_iload_n hx hb dX9_lesser_1 rfl (lv_at hl 1 rfl) ?_
  refine lv_icmp_ge (tgt := 9) hx hb dX9_lesser_2 (by decide) (fun c1 => ?_) (fun c1 => ?_)
  · have hF := if_tv hF c1
    refine lv_iload_n hx hb dX9_lesser_9 rfl (lv_at hl 1 rfl) ?_
    subst hF
    exact pu_iret (v := a1) hN hr rfl dX9_lesser_10
  · have hF := if_fv hF c1
    refine lv_iload_n hx hb dX9_lesser_5 rfl (lv_at hl 0 rfl) ?_
    refine lv_goto (tgt := 10) hx hb dX9_lesser_6 (by decide) ?_
    subst hF
    exact pu_iret (v := a0) hN hr rfl dX9_lesser_10
theorem k_lesser {p : Program} {l : Launch} {e : Env} {R : Room} {s : State} {m : MethodId} {args : Array Value} {below : List Frame} {meth : Method} {c : Code} {H : Heap} {locs : List Loc} {Q : State → Prop} {pc : Nat} {ls : Array Slot} {rest : List Value} {cc : ByteArray} {nL f L : Nat} {a0 : Int32} {a1 : Int32} (hN : mo_N p R s m args meth c RX9 cc nL f L) (hf : 0 + 1 ≤ f) (hL : 8 + (2 + 11) + 0 ≤ L) (hsz : ls.size = nL) (hW : (rest.map fun v => v.category).sum ≤ 8) (hdg : decode cc pc = .ok (.invokestatic 152, 3)) (kk : W p l e R s m args below meth c H locs 0 0 Q (F0 m (pc + 3) ls (.int (p_lesser a0 a1) :: rest))) : W p l e R s m args below meth c H locs 0 0 Q (F0 m pc ls (.int a1 :: .int a0 :: rest)) :=
  pu_cS hN 2 (w_lesser l a0 a1 _ rfl) q2230 q2231 q142 q2232 rfl rfl (by decide +kernel) rfl hf hL (Nat.zero_le _) (Nat.zero_le _) hsz rfl hW hdg kk
def p_gardAt (a0 : Int32) (a1 : Int32) : Int32 := ((162 + (5 * a0)) + a1)
theorem w_gardAt (l : Launch) (a0 : Int32) (a1 : Int32) (v : Int32) (hF : p_gardAt a0 a1 = v) : pu_Met l yX9_gardAt cX9_gardAt 2 (some .int) ({ frames := 0, cells := 0, slots := 0, locals := 0 } : Room) [.int a0, .int a1] (.int v) := by
  refine pu_body (by decide) (Nat.le_of_ble_eq_true rfl) ?_
  intro p e s m args below meth c ls hN hr hl
  have hx := hN.1
  have hb := hN.2.1
  have hI := trivial
  have hl : lv_has ls 2 [(0, .int a0), (1, .int a1)] := hl
  rw [p_gardAt] at hF
  refine lv_sipush (v := 162) hx hb dX9_gardAt_0 (by decide) ?_
  refine lv_iconst (v := 5) hx hb dX9_gardAt_3 (by decide) ?_
  refine lv_iload_n hx hb dX9_gardAt_4 rfl (lv_at hl 0 rfl) ?_
  refine lv_imul hx hb dX9_gardAt_5 ?_
  refine lv_iadd hx hb dX9_gardAt_6 ?_
  refine lv_iload_n hx hb dX9_gardAt_7 rfl (lv_at hl 1 rfl) ?_
  refine lv_iadd hx hb dX9_gardAt_8 ?_
  subst hF
  exact pu_iret (v := ((162 + (5 * a0)) + a1)) hN hr rfl dX9_gardAt_9
theorem k_gardAt {p : Program} {l : Launch} {e : Env} {R : Room} {s : State} {m : MethodId} {args : Array Value} {below : List Frame} {meth : Method} {c : Code} {H : Heap} {locs : List Loc} {Q : State → Prop} {pc : Nat} {ls : Array Slot} {rest : List Value} {cc : ByteArray} {nL f L : Nat} {a0 : Int32} {a1 : Int32} (hN : mo_N p R s m args meth c RX9 cc nL f L) (hf : 0 + 1 ≤ f) (hL : 8 + (2 + 11) + 0 ≤ L) (hsz : ls.size = nL) (hW : (rest.map fun v => v.category).sum ≤ 8) (hdg : decode cc pc = .ok (.invokestatic 91, 3)) (kk : W p l e R s m args below meth c H locs 0 0 Q (F0 m (pc + 3) ls (.int (p_gardAt a0 a1) :: rest))) : W p l e R s m args below meth c H locs 0 0 Q (F0 m pc ls (.int a1 :: .int a0 :: rest)) :=
  pu_cS hN 2 (w_gardAt l a0 a1 _ rfl) q2126 q2127 q142 q2128 rfl rfl (by decide +kernel) rfl hf hL (Nat.zero_le _) (Nat.zero_le _) hsz rfl hW hdg kk
def p_moleAt (a0 : Int32) (a1 : Int32) : Int32 := ((182 + (3 * a0)) + a1)
theorem w_moleAt (l : Launch) (a0 : Int32) (a1 : Int32) (v : Int32) (hF : p_moleAt a0 a1 = v) : pu_Met l yX9_moleAt cX9_moleAt 2 (some .int) ({ frames := 0, cells := 0, slots := 0, locals := 0 } : Room) [.int a0, .int a1] (.int v) := by
  refine pu_body (by decide) (Nat.le_of_ble_eq_true rfl) ?_
  intro p e s m args below meth c ls hN hr hl
  have hx := hN.1
  have hb := hN.2.1
  have hI := trivial
  have hl : lv_has ls 2 [(0, .int a0), (1, .int a1)] := hl
  rw [p_moleAt] at hF
  refine lv_sipush (v := 182) hx hb dX9_moleAt_0 (by decide) ?_
  refine lv_iconst (v := 3) hx hb dX9_moleAt_3 (by decide) ?_
  refine lv_iload_n hx hb dX9_moleAt_4 rfl (lv_at hl 0 rfl) ?_
  refine lv_imul hx hb dX9_moleAt_5 ?_
  refine lv_iadd hx hb dX9_moleAt_6 ?_
  refine lv_iload_n hx hb dX9_moleAt_7 rfl (lv_at hl 1 rfl) ?_
  refine lv_iadd hx hb dX9_moleAt_8 ?_
  subst hF
  exact pu_iret (v := ((182 + (3 * a0)) + a1)) hN hr rfl dX9_moleAt_9
theorem k_moleAt {p : Program} {l : Launch} {e : Env} {R : Room} {s : State} {m : MethodId} {args : Array Value} {below : List Frame} {meth : Method} {c : Code} {H : Heap} {locs : List Loc} {Q : State → Prop} {pc : Nat} {ls : Array Slot} {rest : List Value} {cc : ByteArray} {nL f L : Nat} {a0 : Int32} {a1 : Int32} (hN : mo_N p R s m args meth c RX9 cc nL f L) (hf : 0 + 1 ≤ f) (hL : 8 + (2 + 11) + 0 ≤ L) (hsz : ls.size = nL) (hW : (rest.map fun v => v.category).sum ≤ 8) (hdg : decode cc pc = .ok (.invokestatic 94, 3)) (kk : W p l e R s m args below meth c H locs 0 0 Q (F0 m (pc + 3) ls (.int (p_moleAt a0 a1) :: rest))) : W p l e R s m args below meth c H locs 0 0 Q (F0 m pc ls (.int a1 :: .int a0 :: rest)) :=
  pu_cS hN 2 (w_moleAt l a0 a1 _ rfl) q2133 q2134 q142 q2135 rfl rfl (by decide +kernel) rfl hf hL (Nat.zero_le _) (Nat.zero_le _) hsz rfl hW hdg kk
def p_isSquare (a0 : Int32) : Int32 := (p_isIn a0 0 29)
theorem b_isSquare (a0 : Int32) : p_isSquare a0 = 0 ∨ p_isSquare a0 = 1 := by
  unfold p_isSquare
  exact b_isIn a0 0 29
theorem w_isSquare (l : Launch) (a0 : Int32) (v : Int32) (hF : p_isSquare a0 = v) : pu_Met l yX9_isSquare cX9_isSquare 1 (some .boolean) ({ frames := 1, cells := 0, slots := 0, locals := 22 } : Room) [.int a0] (.int v) := by
  refine pu_body (by decide) (Nat.le_of_ble_eq_true rfl) ?_
  intro p e s m args below meth c ls hN hr hl
  have hx := hN.1
  have hb := hN.2.1
  have hI := trivial
  have hl : lv_has ls 1 [(0, .int a0)] := hl
  rw [p_isSquare] at hF
  refine lv_iload_n hx hb dX9_isSquare_0 rfl (lv_at hl 0 rfl) ?_
  refine lv_iconst (v := 0) hx hb dX9_isSquare_1 (by decide) ?_
  refine lv_bipush (v := 29) hx hb dX9_isSquare_2 (by decide) ?_
  refine k_isIn hN (Nat.le_of_ble_eq_true rfl) (Nat.le_of_ble_eq_true rfl) hl.1 (Nat.le_of_ble_eq_true rfl) dX9_isSquare_4 ?_
  subst hF
  exact pu_iret (v := (p_isIn a0 0 29)) hN hr (by rcases b_isIn a0 0 29 with h | h <;> (rw [h]; rfl)) dX9_isSquare_7
theorem k_isSquare {p : Program} {l : Launch} {e : Env} {R : Room} {s : State} {m : MethodId} {args : Array Value} {below : List Frame} {meth : Method} {c : Code} {H : Heap} {locs : List Loc} {Q : State → Prop} {pc : Nat} {ls : Array Slot} {rest : List Value} {cc : ByteArray} {nL f L : Nat} {a0 : Int32} (hN : mo_N p R s m args meth c RX9 cc nL f L) (hf : 1 + 1 ≤ f) (hL : 8 + (1 + 11) + 22 ≤ L) (hsz : ls.size = nL) (hW : (rest.map fun v => v.category).sum ≤ 8) (hdg : decode cc pc = .ok (.invokestatic 78, 3)) (kk : W p l e R s m args below meth c H locs 0 0 Q (F0 m (pc + 3) ls (.int (p_isSquare a0) :: rest))) : W p l e R s m args below meth c H locs 0 0 Q (F0 m pc ls (.int a0 :: rest)) :=
  pu_cS hN 1 (w_isSquare l a0 _ rfl) q2092 q2093 q142 q2094 rfl rfl (by decide +kernel) rfl hf hL (Nat.zero_le _) (Nat.zero_le _) hsz rfl hW hdg kk
def p_beside (a0 : Int32) (a1 : Int32) : Int32 := if a1 = 0 then (if (a0 / 6) ≤ 0 then ((-1)) else ((a0 - 6))) else (if a1 = 1 then (if (a0 - a0 / 6 * 6) ≤ 0 then ((-1)) else ((a0 - 1))) else (if a1 = 2 then (if 5 ≤ (a0 - a0 / 6 * 6) then ((-1)) else ((a0 + 1))) else (if 4 ≤ (a0 / 6) then ((-1)) else ((a0 + 6)))))
theorem w_beside (l : Launch) (a0 : Int32) (a1 : Int32) (v : Int32) (hF : p_beside a0 a1 = v) : pu_Met l yX9_beside cX9_beside 4 (some .int) ({ frames := 0, cells := 0, slots := 0, locals := 0 } : Room) [.int a0, .int a1] (.int v) := by
  refine pu_body (by decide) (Nat.le_of_ble_eq_true rfl) ?_
  intro p e s m args below meth c ls hN hr hl
  have hx := hN.1
  have hb := hN.2.1
  have hI := trivial
  have hl : lv_has ls 4 [(0, .int a0), (1, .int a1)] := hl
  rw [p_beside] at hF
  refine lv_iload_n hx hb dX9_beside_0 rfl (lv_at hl 0 rfl) ?_
  refine lv_bipush (v := 6) hx hb dX9_beside_1 (by decide) ?_
  refine lv_idiv hx hb dX9_beside_3 (by decide) ?_
  refine mo_ist (lv' := [(2, .int (a0 / 6)), (0, .int a0), (1, .int a1)]) hx hb rfl dX9_beside_4 rfl hl (by decide) rfl (fun ls hl => ?_)
  refine lv_iload_n hx hb dX9_beside_5 rfl (lv_at hl 1 rfl) ?_
  refine lv_bipush (v := 6) hx hb dX9_beside_6 (by decide) ?_
  refine lv_irem hx hb dX9_beside_8 (by decide) ?_
  refine mo_ist (lv' := [(3, .int (a0 - a0 / 6 * 6)), (2, .int (a0 / 6)), (0, .int a0), (1, .int a1)]) hx hb rfl dX9_beside_9 rfl hl (by decide) rfl (fun ls hl => ?_)
  refine lv_iload_n hx hb dX9_beside_10 rfl (lv_at hl 3 rfl) ?_
  refine lv_if_ne (tgt := 27) hx hb dX9_beside_11 (by decide) (fun c1 => ?_) (fun c1 => ?_)
  · have hF := if_fv hF c1
    refine lv_iload_n hx hb dX9_beside_27 rfl (lv_at hl 3 rfl) ?_
    refine lv_iconst (v := 1) hx hb dX9_beside_28 (by decide) ?_
    refine lv_icmp_ne (tgt := 44) hx hb dX9_beside_29 (by decide) (fun c2 => ?_) (fun c2 => ?_)
    · have hF := if_fv hF c2
      refine lv_iload_n hx hb dX9_beside_44 rfl (lv_at hl 3 rfl) ?_
      refine lv_iconst (v := 2) hx hb dX9_beside_45 (by decide) ?_
      refine lv_icmp_ne (tgt := 62) hx hb dX9_beside_46 (by decide) (fun c3 => ?_) (fun c3 => ?_)
      · have hF := if_fv hF c3
        refine lv_iload_n hx hb dX9_beside_62 rfl (lv_at hl 1 rfl) ?_
        refine lv_iconst (v := 4) hx hb dX9_beside_63 (by decide) ?_
        refine lv_icmp_ge (tgt := 74) hx hb dX9_beside_64 (by decide) (fun c4 => ?_) (fun c4 => ?_)
        · have hF := if_tv hF c4
          refine lv_iconst (v := (-1)) hx hb dX9_beside_74 (by decide) ?_
          subst hF
          exact pu_iret (v := (-1)) hN hr rfl dX9_beside_75
        · have hF := if_fv hF c4
          refine lv_iload_n hx hb dX9_beside_67 rfl (lv_at hl 2 rfl) ?_
          refine lv_bipush (v := 6) hx hb dX9_beside_68 (by decide) ?_
          refine lv_iadd hx hb dX9_beside_70 ?_
          refine lv_goto (tgt := 75) hx hb dX9_beside_71 (by decide) ?_
          subst hF
          exact pu_iret (v := (a0 + 6)) hN hr rfl dX9_beside_75
      · have hF := if_tv hF c3
        refine lv_iload_n hx hb dX9_beside_49 rfl (lv_at hl 0 rfl) ?_
        refine lv_iconst (v := 5) hx hb dX9_beside_50 (by decide) ?_
        refine lv_icmp_ge (tgt := 60) hx hb dX9_beside_51 (by decide) (fun c5 => ?_) (fun c5 => ?_)
        · have hF := if_tv hF c5
          refine lv_iconst (v := (-1)) hx hb dX9_beside_60 (by decide) ?_
          subst hF
          exact pu_iret (v := (-1)) hN hr rfl dX9_beside_61
        · have hF := if_fv hF c5
          refine lv_iload_n hx hb dX9_beside_54 rfl (lv_at hl 2 rfl) ?_
          refine lv_iconst (v := 1) hx hb dX9_beside_55 (by decide) ?_
          refine lv_iadd hx hb dX9_beside_56 ?_
          refine lv_goto (tgt := 61) hx hb dX9_beside_57 (by decide) ?_
          subst hF
          exact pu_iret (v := (a0 + 1)) hN hr rfl dX9_beside_61
    · have hF := if_tv hF c2
      refine lv_iload_n hx hb dX9_beside_32 rfl (lv_at hl 0 rfl) ?_
      refine lv_if_le (tgt := 42) hx hb dX9_beside_33 (by decide) (fun c6 => ?_) (fun c6 => ?_)
      · have hF := if_tv hF c6
        refine lv_iconst (v := (-1)) hx hb dX9_beside_42 (by decide) ?_
        subst hF
        exact pu_iret (v := (-1)) hN hr rfl dX9_beside_43
      · have hF := if_fv hF c6
        refine lv_iload_n hx hb dX9_beside_36 rfl (lv_at hl 2 rfl) ?_
        refine lv_iconst (v := 1) hx hb dX9_beside_37 (by decide) ?_
        refine lv_isub hx hb dX9_beside_38 ?_
        refine lv_goto (tgt := 43) hx hb dX9_beside_39 (by decide) ?_
        subst hF
        exact pu_iret (v := (a0 - 1)) hN hr rfl dX9_beside_43
  · have hF := if_tv hF c1
    refine lv_iload_n hx hb dX9_beside_14 rfl (lv_at hl 1 rfl) ?_
    refine lv_if_le (tgt := 25) hx hb dX9_beside_15 (by decide) (fun c7 => ?_) (fun c7 => ?_)
    · have hF := if_tv hF c7
      refine lv_iconst (v := (-1)) hx hb dX9_beside_25 (by decide) ?_
      subst hF
      exact pu_iret (v := (-1)) hN hr rfl dX9_beside_26
    · have hF := if_fv hF c7
      refine lv_iload_n hx hb dX9_beside_18 rfl (lv_at hl 2 rfl) ?_
      refine lv_bipush (v := 6) hx hb dX9_beside_19 (by decide) ?_
      refine lv_isub hx hb dX9_beside_21 ?_
      refine lv_goto (tgt := 26) hx hb dX9_beside_22 (by decide) ?_
      subst hF
      exact pu_iret (v := (a0 - 6)) hN hr rfl dX9_beside_26
theorem k_beside {p : Program} {l : Launch} {e : Env} {R : Room} {s : State} {m : MethodId} {args : Array Value} {below : List Frame} {meth : Method} {c : Code} {H : Heap} {locs : List Loc} {Q : State → Prop} {pc : Nat} {ls : Array Slot} {rest : List Value} {cc : ByteArray} {nL f L : Nat} {a0 : Int32} {a1 : Int32} (hN : mo_N p R s m args meth c RX9 cc nL f L) (hf : 0 + 1 ≤ f) (hL : 8 + (4 + 11) + 0 ≤ L) (hsz : ls.size = nL) (hW : (rest.map fun v => v.category).sum ≤ 8) (hdg : decode cc pc = .ok (.invokestatic 127, 3)) (kk : W p l e R s m args below meth c H locs 0 0 Q (F0 m (pc + 3) ls (.int (p_beside a0 a1) :: rest))) : W p l e R s m args below meth c H locs 0 0 Q (F0 m pc ls (.int a1 :: .int a0 :: rest)) :=
  pu_cS hN 2 (w_beside l a0 a1 _ rfl) q2175 q2176 q142 q2177 rfl rfl (by decide +kernel) rfl hf hL (Nat.zero_le _) (Nat.zero_le _) hsz rfl hW hdg kk
def p_sideOf (a0 : Int32) : Int32 := if a0 = 110 then 0 else (if a0 = 119 then 1 else (if a0 = 101 then 2 else (if a0 = 115 then 3 else ((-1)))))
theorem w_sideOf (l : Launch) (a0 : Int32) (v : Int32) (hF : p_sideOf a0 = v) : pu_Met l yX9_sideOf cX9_sideOf 1 (some .int) ({ frames := 0, cells := 0, slots := 0, locals := 0 } : Room) [.int a0] (.int v) := by
  refine pu_body (by decide) (Nat.le_of_ble_eq_true rfl) ?_
  intro p e s m args below meth c ls hN hr hl
  have hx := hN.1
  have hb := hN.2.1
  have hI := trivial
  have hl : lv_has ls 1 [(0, .int a0)] := hl
  rw [p_sideOf] at hF
  refine lv_iload_n hx hb dX9_sideOf_0 rfl (lv_at hl 0 rfl) ?_
  refine lv_bipush (v := 110) hx hb dX9_sideOf_1 (by decide) ?_
  refine lv_icmp_ne (tgt := 10) hx hb dX9_sideOf_3 (by decide) (fun c1 => ?_) (fun c1 => ?_)
  · have hF := if_fv hF c1
    refine lv_iload_n hx hb dX9_sideOf_10 rfl (lv_at hl 0 rfl) ?_
    refine lv_bipush (v := 119) hx hb dX9_sideOf_11 (by decide) ?_
    refine lv_icmp_ne (tgt := 20) hx hb dX9_sideOf_13 (by decide) (fun c2 => ?_) (fun c2 => ?_)
    · have hF := if_fv hF c2
      refine lv_iload_n hx hb dX9_sideOf_20 rfl (lv_at hl 0 rfl) ?_
      refine lv_bipush (v := 101) hx hb dX9_sideOf_21 (by decide) ?_
      refine lv_icmp_ne (tgt := 30) hx hb dX9_sideOf_23 (by decide) (fun c3 => ?_) (fun c3 => ?_)
      · have hF := if_fv hF c3
        refine lv_iload_n hx hb dX9_sideOf_30 rfl (lv_at hl 0 rfl) ?_
        refine lv_bipush (v := 115) hx hb dX9_sideOf_31 (by decide) ?_
        refine lv_icmp_ne (tgt := 40) hx hb dX9_sideOf_33 (by decide) (fun c4 => ?_) (fun c4 => ?_)
        · have hF := if_fv hF c4
          refine lv_iconst (v := (-1)) hx hb dX9_sideOf_40 (by decide) ?_
          subst hF
          exact pu_iret (v := (-1)) hN hr rfl dX9_sideOf_41
        · have hF := if_tv hF c4
          refine lv_iconst (v := 3) hx hb dX9_sideOf_36 (by decide) ?_
          refine lv_goto (tgt := 41) hx hb dX9_sideOf_37 (by decide) ?_
          subst hF
          exact pu_iret (v := 3) hN hr rfl dX9_sideOf_41
      · have hF := if_tv hF c3
        refine lv_iconst (v := 2) hx hb dX9_sideOf_26 (by decide) ?_
        refine lv_goto (tgt := 41) hx hb dX9_sideOf_27 (by decide) ?_
        subst hF
        exact pu_iret (v := 2) hN hr rfl dX9_sideOf_41
    · have hF := if_tv hF c2
      refine lv_iconst (v := 1) hx hb dX9_sideOf_16 (by decide) ?_
      refine lv_goto (tgt := 41) hx hb dX9_sideOf_17 (by decide) ?_
      subst hF
      exact pu_iret (v := 1) hN hr rfl dX9_sideOf_41
  · have hF := if_tv hF c1
    refine lv_iconst (v := 0) hx hb dX9_sideOf_6 (by decide) ?_
    refine lv_goto (tgt := 41) hx hb dX9_sideOf_7 (by decide) ?_
    subst hF
    exact pu_iret (v := 0) hN hr rfl dX9_sideOf_41
theorem k_sideOf {p : Program} {l : Launch} {e : Env} {R : Room} {s : State} {m : MethodId} {args : Array Value} {below : List Frame} {meth : Method} {c : Code} {H : Heap} {locs : List Loc} {Q : State → Prop} {pc : Nat} {ls : Array Slot} {rest : List Value} {cc : ByteArray} {nL f L : Nat} {a0 : Int32} (hN : mo_N p R s m args meth c RX9 cc nL f L) (hf : 0 + 1 ≤ f) (hL : 8 + (1 + 11) + 0 ≤ L) (hsz : ls.size = nL) (hW : (rest.map fun v => v.category).sum ≤ 8) (hdg : decode cc pc = .ok (.invokestatic 124, 3)) (kk : W p l e R s m args below meth c H locs 0 0 Q (F0 m (pc + 3) ls (.int (p_sideOf a0) :: rest))) : W p l e R s m args below meth c H locs 0 0 Q (F0 m pc ls (.int a0 :: rest)) :=
  pu_cS hN 1 (w_sideOf l a0 _ rfl) q2172 q2173 q142 q2174 rfl rfl (by decide +kernel) rfl hf hL (Nat.zero_le _) (Nat.zero_le _) hsz rfl hW hdg kk
